/-! decode facts, pool facts and segments: Mo_stands, Mo_fit, Mo_emit, Mo_apply, Mo_keep, Mo_sameParts, Mo_tryEmit, Mo_emitPart, Mo_mergeParts, Mo_merge (printed by gen/mk.py) -/
theorem d_Mo_stands_0 : j_D jm_Mo_stands 0 (.iload_n 3) 1 1 := ⟨by decide +kernel, rfl⟩
theorem d_Mo_stands_1 : j_D jm_Mo_stands 1 (.istore 4) 2 3 := ⟨by decide +kernel, rfl⟩
theorem d_Mo_stands_3 : j_D jm_Mo_stands 3 (.iconst 1) 1 4 := ⟨by decide +kernel, rfl⟩
theorem d_Mo_stands_4 : j_D jm_Mo_stands 4 (.istore 5) 2 6 := ⟨by decide +kernel, rfl⟩
theorem d_Mo_stands_6 : j_D jm_Mo_stands 6 (.iconst 0) 1 7 := ⟨by decide +kernel, rfl⟩
theorem d_Mo_stands_7 : j_D jm_Mo_stands 7 (.istore 6) 2 9 := ⟨by decide +kernel, rfl⟩
theorem d_Mo_stands_9 : j_D jm_Mo_stands 9 (.iload 6) 2 11 := ⟨by decide +kernel, rfl⟩
theorem d_Mo_stands_11 : j_D jm_Mo_stands 11 (.aload_n 0) 1 12 := ⟨by decide +kernel, rfl⟩
theorem d_Mo_stands_12 : j_D jm_Mo_stands 12 (.getfield 73) 3 15 := ⟨by decide +kernel, rfl⟩
theorem d_Mo_stands_15 : j_D jm_Mo_stands 15 (.iload_n 1) 1 16 := ⟨by decide +kernel, rfl⟩
theorem d_Mo_stands_16 : j_D jm_Mo_stands 16 .iaload 1 17 := ⟨by decide +kernel, rfl⟩
theorem d_Mo_stands_17 : j_E jm_Mo_stands 17 (.if_icmp .ge) 73 20 90 := ⟨by decide +kernel, rfl, by decide⟩
theorem d_Mo_stands_20 : j_D jm_Mo_stands 20 (.aload_n 0) 1 21 := ⟨by decide +kernel, rfl⟩
theorem d_Mo_stands_21 : j_D jm_Mo_stands 21 (.getfield 76) 3 24 := ⟨by decide +kernel, rfl⟩
theorem d_Mo_stands_24 : j_D jm_Mo_stands 24 (.iload_n 1) 1 25 := ⟨by decide +kernel, rfl⟩
theorem d_Mo_stands_25 : j_D jm_Mo_stands 25 .iaload 1 26 := ⟨by decide +kernel, rfl⟩
theorem d_Mo_stands_26 : j_D jm_Mo_stands 26 (.iconst 3) 1 27 := ⟨by decide +kernel, rfl⟩
theorem d_Mo_stands_27 : j_D jm_Mo_stands 27 (.iload 6) 2 29 := ⟨by decide +kernel, rfl⟩
theorem d_Mo_stands_29 : j_D jm_Mo_stands 29 .imul 1 30 := ⟨by decide +kernel, rfl⟩
theorem d_Mo_stands_30 : j_D jm_Mo_stands 30 .iadd 1 31 := ⟨by decide +kernel, rfl⟩
theorem d_Mo_stands_31 : j_D jm_Mo_stands 31 (.istore 7) 2 33 := ⟨by decide +kernel, rfl⟩
theorem d_Mo_stands_33 : j_D jm_Mo_stands 33 (.aload_n 0) 1 34 := ⟨by decide +kernel, rfl⟩
theorem d_Mo_stands_34 : j_D jm_Mo_stands 34 (.getfield 61) 3 37 := ⟨by decide +kernel, rfl⟩
theorem d_Mo_stands_37 : j_D jm_Mo_stands 37 (.iload 7) 2 39 := ⟨by decide +kernel, rfl⟩
theorem d_Mo_stands_39 : j_D jm_Mo_stands 39 .iaload 1 40 := ⟨by decide +kernel, rfl⟩
theorem d_Mo_stands_40 : j_D jm_Mo_stands 40 (.bipush 43) 2 42 := ⟨by decide +kernel, rfl⟩
theorem d_Mo_stands_42 : j_E jm_Mo_stands 42 (.if_icmp .eq) 42 45 84 := ⟨by decide +kernel, rfl, by decide⟩
theorem d_Mo_stands_45 : j_D jm_Mo_stands 45 (.iload 5) 2 47 := ⟨by decide +kernel, rfl⟩
theorem d_Mo_stands_47 : j_E jm_Mo_stands 47 (.ifCond .eq) 31 50 78 := ⟨by decide +kernel, rfl, by decide⟩
theorem d_Mo_stands_50 : j_D jm_Mo_stands 50 (.aload_n 0) 1 51 := ⟨by decide +kernel, rfl⟩
theorem d_Mo_stands_51 : j_D jm_Mo_stands 51 (.getfield 7) 3 54 := ⟨by decide +kernel, rfl⟩
theorem d_Mo_stands_54 : j_D jm_Mo_stands 54 (.bipush 24) 2 56 := ⟨by decide +kernel, rfl⟩
theorem d_Mo_stands_56 : j_D jm_Mo_stands 56 (.iload_n 2) 1 57 := ⟨by decide +kernel, rfl⟩
theorem d_Mo_stands_57 : j_D jm_Mo_stands 57 .imul 1 58 := ⟨by decide +kernel, rfl⟩
theorem d_Mo_stands_58 : j_D jm_Mo_stands 58 (.iload 4) 2 60 := ⟨by decide +kernel, rfl⟩
theorem d_Mo_stands_60 : j_D jm_Mo_stands 60 .iadd 1 61 := ⟨by decide +kernel, rfl⟩
theorem d_Mo_stands_61 : j_D jm_Mo_stands 61 .iaload 1 62 := ⟨by decide +kernel, rfl⟩
theorem d_Mo_stands_62 : j_D jm_Mo_stands 62 (.aload_n 0) 1 63 := ⟨by decide +kernel, rfl⟩
theorem d_Mo_stands_63 : j_D jm_Mo_stands 63 (.getfield 61) 3 66 := ⟨by decide +kernel, rfl⟩
theorem d_Mo_stands_66 : j_D jm_Mo_stands 66 (.iload 7) 2 68 := ⟨by decide +kernel, rfl⟩
theorem d_Mo_stands_68 : j_D jm_Mo_stands 68 (.iconst 1) 1 69 := ⟨by decide +kernel, rfl⟩
theorem d_Mo_stands_69 : j_D jm_Mo_stands 69 .iadd 1 70 := ⟨by decide +kernel, rfl⟩
theorem d_Mo_stands_70 : j_D jm_Mo_stands 70 .iaload 1 71 := ⟨by decide +kernel, rfl⟩
theorem d_Mo_stands_71 : j_E jm_Mo_stands 71 (.if_icmp .ne) 7 74 78 := ⟨by decide +kernel, rfl, by decide⟩
theorem d_Mo_stands_74 : j_D jm_Mo_stands 74 (.iconst 1) 1 75 := ⟨by decide +kernel, rfl⟩
theorem d_Mo_stands_75 : j_E jm_Mo_stands 75 .goto 4 78 79 := ⟨by decide +kernel, rfl, by decide⟩
theorem d_Mo_stands_78 : j_D jm_Mo_stands 78 (.iconst 0) 1 79 := ⟨by decide +kernel, rfl⟩
theorem d_Mo_stands_79 : j_D jm_Mo_stands 79 (.istore 5) 2 81 := ⟨by decide +kernel, rfl⟩
theorem d_Mo_stands_81 : j_D jm_Mo_stands 81 (.iinc 4 1) 3 84 := ⟨by decide +kernel, rfl⟩
theorem d_Mo_stands_84 : j_D jm_Mo_stands 84 (.iinc 6 1) 3 87 := ⟨by decide +kernel, rfl⟩
theorem d_Mo_stands_87 : j_E jm_Mo_stands 87 .goto (-78) 90 9 := ⟨by decide +kernel, rfl, by decide⟩
theorem d_Mo_stands_90 : j_D jm_Mo_stands 90 (.iload 5) 2 92 := ⟨by decide +kernel, rfl⟩
theorem d_Mo_stands_92 : j_D jm_Mo_stands 92 .ireturn 1 93 := ⟨by decide +kernel, rfl⟩
theorem d_Mo_fit_0 : j_D jm_Mo_fit 0 (.iconst (-1)) 1 1 := ⟨by decide +kernel, rfl⟩
theorem d_Mo_fit_1 : j_D jm_Mo_fit 1 (.istore 4) 2 3 := ⟨by decide +kernel, rfl⟩
theorem d_Mo_fit_3 : j_D jm_Mo_fit 3 (.sipush 1000) 3 6 := ⟨by decide +kernel, rfl⟩
theorem d_Mo_fit_6 : j_D jm_Mo_fit 6 (.istore 5) 2 8 := ⟨by decide +kernel, rfl⟩
theorem d_Mo_fit_8 : j_D jm_Mo_fit 8 (.iload_n 3) 1 9 := ⟨by decide +kernel, rfl⟩
theorem d_Mo_fit_9 : j_D jm_Mo_fit 9 (.istore 6) 2 11 := ⟨by decide +kernel, rfl⟩
theorem d_Mo_fit_11 : j_D jm_Mo_fit 11 (.iload 6) 2 13 := ⟨by decide +kernel, rfl⟩
theorem d_Mo_fit_13 : j_D jm_Mo_fit 13 (.aload_n 0) 1 14 := ⟨by decide +kernel, rfl⟩
theorem d_Mo_fit_14 : j_D jm_Mo_fit 14 (.getfield 67) 3 17 := ⟨by decide +kernel, rfl⟩
theorem d_Mo_fit_17 : j_D jm_Mo_fit 17 (.iload_n 1) 1 18 := ⟨by decide +kernel, rfl⟩
theorem d_Mo_fit_18 : j_D jm_Mo_fit 18 .iaload 1 19 := ⟨by decide +kernel, rfl⟩
theorem d_Mo_fit_19 : j_D jm_Mo_fit 19 .iadd 1 20 := ⟨by decide +kernel, rfl⟩
theorem d_Mo_fit_20 : j_D jm_Mo_fit 20 (.aload_n 0) 1 21 := ⟨by decide +kernel, rfl⟩
theorem d_Mo_fit_21 : j_D jm_Mo_fit 21 (.getfield 13) 3 24 := ⟨by decide +kernel, rfl⟩
theorem d_Mo_fit_24 : j_D jm_Mo_fit 24 (.iload_n 2) 1 25 := ⟨by decide +kernel, rfl⟩
theorem d_Mo_fit_25 : j_D jm_Mo_fit 25 .iaload 1 26 := ⟨by decide +kernel, rfl⟩
theorem d_Mo_fit_26 : j_E jm_Mo_fit 26 (.if_icmp .gt) 69 29 95 := ⟨by decide +kernel, rfl, by decide⟩
theorem d_Mo_fit_29 : j_D jm_Mo_fit 29 (.iload 6) 2 31 := ⟨by decide +kernel, rfl⟩
theorem d_Mo_fit_31 : j_D jm_Mo_fit 31 (.aload_n 0) 1 32 := ⟨by decide +kernel, rfl⟩
theorem d_Mo_fit_32 : j_D jm_Mo_fit 32 (.getfield 64) 3 35 := ⟨by decide +kernel, rfl⟩
theorem d_Mo_fit_35 : j_D jm_Mo_fit 35 (.iload_n 1) 1 36 := ⟨by decide +kernel, rfl⟩
theorem d_Mo_fit_36 : j_D jm_Mo_fit 36 .iaload 1 37 := ⟨by decide +kernel, rfl⟩
theorem d_Mo_fit_37 : j_E jm_Mo_fit 37 (.if_icmp .ge) 15 40 52 := ⟨by decide +kernel, rfl, by decide⟩
theorem d_Mo_fit_40 : j_D jm_Mo_fit 40 (.aload_n 0) 1 41 := ⟨by decide +kernel, rfl⟩
theorem d_Mo_fit_41 : j_D jm_Mo_fit 41 (.getfield 64) 3 44 := ⟨by decide +kernel, rfl⟩
theorem d_Mo_fit_44 : j_D jm_Mo_fit 44 (.iload_n 1) 1 45 := ⟨by decide +kernel, rfl⟩
theorem d_Mo_fit_45 : j_D jm_Mo_fit 45 .iaload 1 46 := ⟨by decide +kernel, rfl⟩
theorem d_Mo_fit_46 : j_D jm_Mo_fit 46 (.iload 6) 2 48 := ⟨by decide +kernel, rfl⟩
theorem d_Mo_fit_48 : j_D jm_Mo_fit 48 .isub 1 49 := ⟨by decide +kernel, rfl⟩
theorem d_Mo_fit_49 : j_E jm_Mo_fit 49 .goto 12 52 61 := ⟨by decide +kernel, rfl, by decide⟩
theorem d_Mo_fit_52 : j_D jm_Mo_fit 52 (.iload 6) 2 54 := ⟨by decide +kernel, rfl⟩
theorem d_Mo_fit_54 : j_D jm_Mo_fit 54 (.aload_n 0) 1 55 := ⟨by decide +kernel, rfl⟩
theorem d_Mo_fit_55 : j_D jm_Mo_fit 55 (.getfield 64) 3 58 := ⟨by decide +kernel, rfl⟩
theorem d_Mo_fit_58 : j_D jm_Mo_fit 58 (.iload_n 1) 1 59 := ⟨by decide +kernel, rfl⟩
theorem d_Mo_fit_59 : j_D jm_Mo_fit 59 .iaload 1 60 := ⟨by decide +kernel, rfl⟩
theorem d_Mo_fit_60 : j_D jm_Mo_fit 60 .isub 1 61 := ⟨by decide +kernel, rfl⟩
theorem d_Mo_fit_61 : j_D jm_Mo_fit 61 (.istore 7) 2 63 := ⟨by decide +kernel, rfl⟩
theorem d_Mo_fit_63 : j_D jm_Mo_fit 63 (.iload 7) 2 65 := ⟨by decide +kernel, rfl⟩
theorem d_Mo_fit_65 : j_D jm_Mo_fit 65 (.iload 5) 2 67 := ⟨by decide +kernel, rfl⟩
theorem d_Mo_fit_67 : j_E jm_Mo_fit 67 (.if_icmp .ge) 22 70 89 := ⟨by decide +kernel, rfl, by decide⟩
theorem d_Mo_fit_70 : j_D jm_Mo_fit 70 (.aload_n 0) 1 71 := ⟨by decide +kernel, rfl⟩
theorem d_Mo_fit_71 : j_D jm_Mo_fit 71 (.iload_n 1) 1 72 := ⟨by decide +kernel, rfl⟩
theorem d_Mo_fit_72 : j_D jm_Mo_fit 72 (.iload_n 2) 1 73 := ⟨by decide +kernel, rfl⟩
theorem d_Mo_fit_73 : j_D jm_Mo_fit 73 (.iload 6) 2 75 := ⟨by decide +kernel, rfl⟩
theorem d_Mo_fit_75 : j_D jm_Mo_fit 75 (.invokevirtual 196) 3 78 := ⟨by decide +kernel, rfl⟩
theorem d_Mo_fit_78 : j_E jm_Mo_fit 78 (.ifCond .eq) 11 81 89 := ⟨by decide +kernel, rfl, by decide⟩
theorem d_Mo_fit_81 : j_D jm_Mo_fit 81 (.iload 6) 2 83 := ⟨by decide +kernel, rfl⟩
theorem d_Mo_fit_83 : j_D jm_Mo_fit 83 (.istore 4) 2 85 := ⟨by decide +kernel, rfl⟩
theorem d_Mo_fit_85 : j_D jm_Mo_fit 85 (.iload 7) 2 87 := ⟨by decide +kernel, rfl⟩
theorem d_Mo_fit_87 : j_D jm_Mo_fit 87 (.istore 5) 2 89 := ⟨by decide +kernel, rfl⟩
theorem d_Mo_fit_89 : j_D jm_Mo_fit 89 (.iinc 6 1) 3 92 := ⟨by decide +kernel, rfl⟩
theorem d_Mo_fit_92 : j_E jm_Mo_fit 92 .goto (-81) 95 11 := ⟨by decide +kernel, rfl, by decide⟩
theorem d_Mo_fit_95 : j_D jm_Mo_fit 95 (.iload 4) 2 97 := ⟨by decide +kernel, rfl⟩
theorem d_Mo_fit_97 : j_D jm_Mo_fit 97 .ireturn 1 98 := ⟨by decide +kernel, rfl⟩
theorem d_Mo_emit_0 : j_D jm_Mo_emit 0 (.aload_n 0) 1 1 := ⟨by decide +kernel, rfl⟩
theorem d_Mo_emit_1 : j_D jm_Mo_emit 1 (.getfield 82) 3 4 := ⟨by decide +kernel, rfl⟩
theorem d_Mo_emit_4 : j_D jm_Mo_emit 4 (.aload_n 0) 1 5 := ⟨by decide +kernel, rfl⟩
theorem d_Mo_emit_5 : j_D jm_Mo_emit 5 (.getfield 199) 3 8 := ⟨by decide +kernel, rfl⟩
theorem d_Mo_emit_8 : j_D jm_Mo_emit 8 (.iload_n 1) 1 9 := ⟨by decide +kernel, rfl⟩
theorem d_Mo_emit_9 : j_D jm_Mo_emit 9 .iastore 1 10 := ⟨by decide +kernel, rfl⟩
theorem d_Mo_emit_10 : j_D jm_Mo_emit 10 (.aload_n 0) 1 11 := ⟨by decide +kernel, rfl⟩
theorem d_Mo_emit_11 : j_D jm_Mo_emit 11 .dup 1 12 := ⟨by decide +kernel, rfl⟩
theorem d_Mo_emit_12 : j_D jm_Mo_emit 12 (.getfield 199) 3 15 := ⟨by decide +kernel, rfl⟩
theorem d_Mo_emit_15 : j_D jm_Mo_emit 15 (.iconst 1) 1 16 := ⟨by decide +kernel, rfl⟩
theorem d_Mo_emit_16 : j_D jm_Mo_emit 16 .iadd 1 17 := ⟨by decide +kernel, rfl⟩
theorem d_Mo_emit_17 : j_D jm_Mo_emit 17 (.putfield 199) 3 20 := ⟨by decide +kernel, rfl⟩
theorem d_Mo_emit_20 : j_D jm_Mo_emit 20 .return_ 1 21 := ⟨by decide +kernel, rfl⟩
theorem d_Mo_apply_0 : j_D jm_Mo_apply 0 (.iload_n 1) 1 1 := ⟨by decide +kernel, rfl⟩
theorem d_Mo_apply_1 : j_D jm_Mo_apply 1 (.iconst 0) 1 2 := ⟨by decide +kernel, rfl⟩
theorem d_Mo_apply_2 : j_D jm_Mo_apply 2 (.iconst 3) 1 3 := ⟨by decide +kernel, rfl⟩
theorem d_Mo_apply_3 : j_D jm_Mo_apply 3 (.invokestatic 88) 3 6 := ⟨by decide +kernel, rfl⟩
theorem d_Mo_apply_6 : j_E jm_Mo_apply 6 (.ifCond .eq) 10 9 16 := ⟨by decide +kernel, rfl, by decide⟩
theorem d_Mo_apply_9 : j_D jm_Mo_apply 9 (.aload_n 0) 1 10 := ⟨by decide +kernel, rfl⟩
theorem d_Mo_apply_10 : j_D jm_Mo_apply 10 (.invokevirtual 202) 3 13 := ⟨by decide +kernel, rfl⟩
theorem d_Mo_apply_13 : j_E jm_Mo_apply 13 (.ifCond .lt) 5 16 18 := ⟨by decide +kernel, rfl, by decide⟩
theorem d_Mo_apply_16 : j_D jm_Mo_apply 16 (.iconst (-1)) 1 17 := ⟨by decide +kernel, rfl⟩
theorem d_Mo_apply_17 : j_D jm_Mo_apply 17 .ireturn 1 18 := ⟨by decide +kernel, rfl⟩
theorem d_Mo_apply_18 : j_D jm_Mo_apply 18 (.iconst 0) 1 19 := ⟨by decide +kernel, rfl⟩
theorem d_Mo_apply_19 : j_D jm_Mo_apply 19 (.istore_n 2) 1 20 := ⟨by decide +kernel, rfl⟩
theorem d_Mo_apply_20 : j_D jm_Mo_apply 20 (.aload_n 0) 1 21 := ⟨by decide +kernel, rfl⟩
theorem d_Mo_apply_21 : j_D jm_Mo_apply 21 (.getfield 13) 3 24 := ⟨by decide +kernel, rfl⟩
theorem d_Mo_apply_24 : j_D jm_Mo_apply 24 (.iload_n 1) 1 25 := ⟨by decide +kernel, rfl⟩
theorem d_Mo_apply_25 : j_D jm_Mo_apply 25 .iaload 1 26 := ⟨by decide +kernel, rfl⟩
theorem d_Mo_apply_26 : j_D jm_Mo_apply 26 (.istore_n 3) 1 27 := ⟨by decide +kernel, rfl⟩
theorem d_Mo_apply_27 : j_D jm_Mo_apply 27 (.iconst 0) 1 28 := ⟨by decide +kernel, rfl⟩
theorem d_Mo_apply_28 : j_D jm_Mo_apply 28 (.istore 4) 2 30 := ⟨by decide +kernel, rfl⟩
theorem d_Mo_apply_30 : j_D jm_Mo_apply 30 (.iload 4) 2 32 := ⟨by decide +kernel, rfl⟩
theorem d_Mo_apply_32 : j_D jm_Mo_apply 32 (.aload_n 0) 1 33 := ⟨by decide +kernel, rfl⟩
theorem d_Mo_apply_33 : j_D jm_Mo_apply 33 (.getfield 187) 3 36 := ⟨by decide +kernel, rfl⟩
theorem d_Mo_apply_36 : j_E jm_Mo_apply 36 (.if_icmp .ge) 80 39 116 := ⟨by decide +kernel, rfl, by decide⟩
theorem d_Mo_apply_39 : j_D jm_Mo_apply 39 (.aload_n 0) 1 40 := ⟨by decide +kernel, rfl⟩
theorem d_Mo_apply_40 : j_D jm_Mo_apply 40 (.getfield 79) 3 43 := ⟨by decide +kernel, rfl⟩
theorem d_Mo_apply_43 : j_D jm_Mo_apply 43 (.iload 4) 2 45 := ⟨by decide +kernel, rfl⟩
theorem d_Mo_apply_45 : j_D jm_Mo_apply 45 (.aload_n 0) 1 46 := ⟨by decide +kernel, rfl⟩
theorem d_Mo_apply_46 : j_D jm_Mo_apply 46 (.iload 4) 2 48 := ⟨by decide +kernel, rfl⟩
theorem d_Mo_apply_48 : j_D jm_Mo_apply 48 (.iload_n 1) 1 49 := ⟨by decide +kernel, rfl⟩
theorem d_Mo_apply_49 : j_D jm_Mo_apply 49 (.iload_n 2) 1 50 := ⟨by decide +kernel, rfl⟩
theorem d_Mo_apply_50 : j_D jm_Mo_apply 50 (.invokevirtual 205) 3 53 := ⟨by decide +kernel, rfl⟩
theorem d_Mo_apply_53 : j_D jm_Mo_apply 53 .iastore 1 54 := ⟨by decide +kernel, rfl⟩
theorem d_Mo_apply_54 : j_D jm_Mo_apply 54 (.iload_n 3) 1 55 := ⟨by decide +kernel, rfl⟩
theorem d_Mo_apply_55 : j_D jm_Mo_apply 55 (.aload_n 0) 1 56 := ⟨by decide +kernel, rfl⟩
theorem d_Mo_apply_56 : j_D jm_Mo_apply 56 (.getfield 70) 3 59 := ⟨by decide +kernel, rfl⟩
theorem d_Mo_apply_59 : j_D jm_Mo_apply 59 (.iload 4) 2 61 := ⟨by decide +kernel, rfl⟩
theorem d_Mo_apply_61 : j_D jm_Mo_apply 61 .iaload 1 62 := ⟨by decide +kernel, rfl⟩
theorem d_Mo_apply_62 : j_D jm_Mo_apply 62 .iadd 1 63 := ⟨by decide +kernel, rfl⟩
theorem d_Mo_apply_63 : j_D jm_Mo_apply 63 (.aload_n 0) 1 64 := ⟨by decide +kernel, rfl⟩
theorem d_Mo_apply_64 : j_D jm_Mo_apply 64 (.getfield 67) 3 67 := ⟨by decide +kernel, rfl⟩
theorem d_Mo_apply_67 : j_D jm_Mo_apply 67 (.iload 4) 2 69 := ⟨by decide +kernel, rfl⟩
theorem d_Mo_apply_69 : j_D jm_Mo_apply 69 .iaload 1 70 := ⟨by decide +kernel, rfl⟩
theorem d_Mo_apply_70 : j_D jm_Mo_apply 70 .isub 1 71 := ⟨by decide +kernel, rfl⟩
theorem d_Mo_apply_71 : j_D jm_Mo_apply 71 (.istore_n 3) 1 72 := ⟨by decide +kernel, rfl⟩
theorem d_Mo_apply_72 : j_D jm_Mo_apply 72 (.aload_n 0) 1 73 := ⟨by decide +kernel, rfl⟩
theorem d_Mo_apply_73 : j_D jm_Mo_apply 73 (.getfield 79) 3 76 := ⟨by decide +kernel, rfl⟩
theorem d_Mo_apply_76 : j_D jm_Mo_apply 76 (.iload 4) 2 78 := ⟨by decide +kernel, rfl⟩
theorem d_Mo_apply_78 : j_D jm_Mo_apply 78 .iaload 1 79 := ⟨by decide +kernel, rfl⟩
theorem d_Mo_apply_79 : j_E jm_Mo_apply 79 (.ifCond .lt) 9 82 88 := ⟨by decide +kernel, rfl, by decide⟩
theorem d_Mo_apply_82 : j_D jm_Mo_apply 82 (.iload_n 3) 1 83 := ⟨by decide +kernel, rfl⟩
theorem d_Mo_apply_83 : j_D jm_Mo_apply 83 (.bipush 24) 2 85 := ⟨by decide +kernel, rfl⟩
theorem d_Mo_apply_85 : j_E jm_Mo_apply 85 (.if_icmp .le) 9 88 94 := ⟨by decide +kernel, rfl, by decide⟩
theorem d_Mo_apply_88 : j_D jm_Mo_apply 88 (.bipush (-3)) 2 90 := ⟨by decide +kernel, rfl⟩
theorem d_Mo_apply_90 : j_D jm_Mo_apply 90 (.iload 4) 2 92 := ⟨by decide +kernel, rfl⟩
theorem d_Mo_apply_92 : j_D jm_Mo_apply 92 .isub 1 93 := ⟨by decide +kernel, rfl⟩
theorem d_Mo_apply_93 : j_D jm_Mo_apply 93 .ireturn 1 94 := ⟨by decide +kernel, rfl⟩
theorem d_Mo_apply_94 : j_D jm_Mo_apply 94 (.aload_n 0) 1 95 := ⟨by decide +kernel, rfl⟩
theorem d_Mo_apply_95 : j_D jm_Mo_apply 95 (.getfield 79) 3 98 := ⟨by decide +kernel, rfl⟩
theorem d_Mo_apply_98 : j_D jm_Mo_apply 98 (.iload 4) 2 100 := ⟨by decide +kernel, rfl⟩
theorem d_Mo_apply_100 : j_D jm_Mo_apply 100 .iaload 1 101 := ⟨by decide +kernel, rfl⟩
theorem d_Mo_apply_101 : j_D jm_Mo_apply 101 (.aload_n 0) 1 102 := ⟨by decide +kernel, rfl⟩
theorem d_Mo_apply_102 : j_D jm_Mo_apply 102 (.getfield 67) 3 105 := ⟨by decide +kernel, rfl⟩
theorem d_Mo_apply_105 : j_D jm_Mo_apply 105 (.iload 4) 2 107 := ⟨by decide +kernel, rfl⟩
theorem d_Mo_apply_107 : j_D jm_Mo_apply 107 .iaload 1 108 := ⟨by decide +kernel, rfl⟩
theorem d_Mo_apply_108 : j_D jm_Mo_apply 108 .iadd 1 109 := ⟨by decide +kernel, rfl⟩
theorem d_Mo_apply_109 : j_D jm_Mo_apply 109 (.istore_n 2) 1 110 := ⟨by decide +kernel, rfl⟩
theorem d_Mo_apply_110 : j_D jm_Mo_apply 110 (.iinc 4 1) 3 113 := ⟨by decide +kernel, rfl⟩
theorem d_Mo_apply_113 : j_E jm_Mo_apply 113 .goto (-83) 116 30 := ⟨by decide +kernel, rfl, by decide⟩
theorem d_Mo_apply_116 : j_D jm_Mo_apply 116 (.aload_n 0) 1 117 := ⟨by decide +kernel, rfl⟩
theorem d_Mo_apply_117 : j_D jm_Mo_apply 117 (.iconst 0) 1 118 := ⟨by decide +kernel, rfl⟩
theorem d_Mo_apply_118 : j_D jm_Mo_apply 118 (.putfield 199) 3 121 := ⟨by decide +kernel, rfl⟩
theorem d_Mo_apply_121 : j_D jm_Mo_apply 121 (.iconst 0) 1 122 := ⟨by decide +kernel, rfl⟩
theorem d_Mo_apply_122 : j_D jm_Mo_apply 122 (.istore 4) 2 124 := ⟨by decide +kernel, rfl⟩
theorem d_Mo_apply_124 : j_D jm_Mo_apply 124 (.iconst 0) 1 125 := ⟨by decide +kernel, rfl⟩
theorem d_Mo_apply_125 : j_D jm_Mo_apply 125 (.istore 5) 2 127 := ⟨by decide +kernel, rfl⟩
theorem d_Mo_apply_127 : j_D jm_Mo_apply 127 (.iload 5) 2 129 := ⟨by decide +kernel, rfl⟩
theorem d_Mo_apply_129 : j_D jm_Mo_apply 129 (.aload_n 0) 1 130 := ⟨by decide +kernel, rfl⟩
theorem d_Mo_apply_130 : j_D jm_Mo_apply 130 (.getfield 187) 3 133 := ⟨by decide +kernel, rfl⟩
theorem d_Mo_apply_133 : j_E jm_Mo_apply 133 (.if_icmp .ge) 115 136 248 := ⟨by decide +kernel, rfl, by decide⟩
theorem d_Mo_apply_136 : j_D jm_Mo_apply 136 (.iload 4) 2 138 := ⟨by decide +kernel, rfl⟩
theorem d_Mo_apply_138 : j_D jm_Mo_apply 138 (.aload_n 0) 1 139 := ⟨by decide +kernel, rfl⟩
theorem d_Mo_apply_139 : j_D jm_Mo_apply 139 (.getfield 79) 3 142 := ⟨by decide +kernel, rfl⟩
theorem d_Mo_apply_142 : j_D jm_Mo_apply 142 (.iload 5) 2 144 := ⟨by decide +kernel, rfl⟩
theorem d_Mo_apply_144 : j_D jm_Mo_apply 144 .iaload 1 145 := ⟨by decide +kernel, rfl⟩
theorem d_Mo_apply_145 : j_E jm_Mo_apply 145 (.if_icmp .ge) 25 148 170 := ⟨by decide +kernel, rfl, by decide⟩
theorem d_Mo_apply_148 : j_D jm_Mo_apply 148 (.aload_n 0) 1 149 := ⟨by decide +kernel, rfl⟩
theorem d_Mo_apply_149 : j_D jm_Mo_apply 149 (.aload_n 0) 1 150 := ⟨by decide +kernel, rfl⟩
theorem d_Mo_apply_150 : j_D jm_Mo_apply 150 (.getfield 7) 3 153 := ⟨by decide +kernel, rfl⟩
theorem d_Mo_apply_153 : j_D jm_Mo_apply 153 (.bipush 24) 2 155 := ⟨by decide +kernel, rfl⟩
theorem d_Mo_apply_155 : j_D jm_Mo_apply 155 (.iload_n 1) 1 156 := ⟨by decide +kernel, rfl⟩
theorem d_Mo_apply_156 : j_D jm_Mo_apply 156 .imul 1 157 := ⟨by decide +kernel, rfl⟩
theorem d_Mo_apply_157 : j_D jm_Mo_apply 157 (.iload 4) 2 159 := ⟨by decide +kernel, rfl⟩
theorem d_Mo_apply_159 : j_D jm_Mo_apply 159 .iadd 1 160 := ⟨by decide +kernel, rfl⟩
theorem d_Mo_apply_160 : j_D jm_Mo_apply 160 .iaload 1 161 := ⟨by decide +kernel, rfl⟩
theorem d_Mo_apply_161 : j_D jm_Mo_apply 161 (.invokevirtual 208) 3 164 := ⟨by decide +kernel, rfl⟩
theorem d_Mo_apply_164 : j_D jm_Mo_apply 164 (.iinc 4 1) 3 167 := ⟨by decide +kernel, rfl⟩
theorem d_Mo_apply_167 : j_E jm_Mo_apply 167 .goto (-31) 170 136 := ⟨by decide +kernel, rfl, by decide⟩
theorem d_Mo_apply_170 : j_D jm_Mo_apply 170 (.iconst 0) 1 171 := ⟨by decide +kernel, rfl⟩
theorem d_Mo_apply_171 : j_D jm_Mo_apply 171 (.istore 6) 2 173 := ⟨by decide +kernel, rfl⟩
theorem d_Mo_apply_173 : j_D jm_Mo_apply 173 (.iload 6) 2 175 := ⟨by decide +kernel, rfl⟩
theorem d_Mo_apply_175 : j_D jm_Mo_apply 175 (.aload_n 0) 1 176 := ⟨by decide +kernel, rfl⟩
theorem d_Mo_apply_176 : j_D jm_Mo_apply 176 (.getfield 73) 3 179 := ⟨by decide +kernel, rfl⟩
theorem d_Mo_apply_179 : j_D jm_Mo_apply 179 (.iload 5) 2 181 := ⟨by decide +kernel, rfl⟩
theorem d_Mo_apply_181 : j_D jm_Mo_apply 181 .iaload 1 182 := ⟨by decide +kernel, rfl⟩
theorem d_Mo_apply_182 : j_E jm_Mo_apply 182 (.if_icmp .ge) 48 185 230 := ⟨by decide +kernel, rfl, by decide⟩
theorem d_Mo_apply_185 : j_D jm_Mo_apply 185 (.aload_n 0) 1 186 := ⟨by decide +kernel, rfl⟩
theorem d_Mo_apply_186 : j_D jm_Mo_apply 186 (.getfield 76) 3 189 := ⟨by decide +kernel, rfl⟩
theorem d_Mo_apply_189 : j_D jm_Mo_apply 189 (.iload 5) 2 191 := ⟨by decide +kernel, rfl⟩
theorem d_Mo_apply_191 : j_D jm_Mo_apply 191 .iaload 1 192 := ⟨by decide +kernel, rfl⟩
theorem d_Mo_apply_192 : j_D jm_Mo_apply 192 (.iconst 3) 1 193 := ⟨by decide +kernel, rfl⟩
theorem d_Mo_apply_193 : j_D jm_Mo_apply 193 (.iload 6) 2 195 := ⟨by decide +kernel, rfl⟩
theorem d_Mo_apply_195 : j_D jm_Mo_apply 195 .imul 1 196 := ⟨by decide +kernel, rfl⟩
theorem d_Mo_apply_196 : j_D jm_Mo_apply 196 .iadd 1 197 := ⟨by decide +kernel, rfl⟩
theorem d_Mo_apply_197 : j_D jm_Mo_apply 197 (.istore 7) 2 199 := ⟨by decide +kernel, rfl⟩
theorem d_Mo_apply_199 : j_D jm_Mo_apply 199 (.aload_n 0) 1 200 := ⟨by decide +kernel, rfl⟩
theorem d_Mo_apply_200 : j_D jm_Mo_apply 200 (.getfield 61) 3 203 := ⟨by decide +kernel, rfl⟩
theorem d_Mo_apply_203 : j_D jm_Mo_apply 203 (.iload 7) 2 205 := ⟨by decide +kernel, rfl⟩
theorem d_Mo_apply_205 : j_D jm_Mo_apply 205 .iaload 1 206 := ⟨by decide +kernel, rfl⟩
theorem d_Mo_apply_206 : j_D jm_Mo_apply 206 (.bipush 45) 2 208 := ⟨by decide +kernel, rfl⟩
theorem d_Mo_apply_208 : j_E jm_Mo_apply 208 (.if_icmp .eq) 16 211 224 := ⟨by decide +kernel, rfl, by decide⟩
theorem d_Mo_apply_211 : j_D jm_Mo_apply 211 (.aload_n 0) 1 212 := ⟨by decide +kernel, rfl⟩
theorem d_Mo_apply_212 : j_D jm_Mo_apply 212 (.aload_n 0) 1 213 := ⟨by decide +kernel, rfl⟩
theorem d_Mo_apply_213 : j_D jm_Mo_apply 213 (.getfield 61) 3 216 := ⟨by decide +kernel, rfl⟩
theorem d_Mo_apply_216 : j_D jm_Mo_apply 216 (.iload 7) 2 218 := ⟨by decide +kernel, rfl⟩
theorem d_Mo_apply_218 : j_D jm_Mo_apply 218 (.iconst 1) 1 219 := ⟨by decide +kernel, rfl⟩
theorem d_Mo_apply_219 : j_D jm_Mo_apply 219 .iadd 1 220 := ⟨by decide +kernel, rfl⟩
theorem d_Mo_apply_220 : j_D jm_Mo_apply 220 .iaload 1 221 := ⟨by decide +kernel, rfl⟩
theorem d_Mo_apply_221 : j_D jm_Mo_apply 221 (.invokevirtual 208) 3 224 := ⟨by decide +kernel, rfl⟩
theorem d_Mo_apply_224 : j_D jm_Mo_apply 224 (.iinc 6 1) 3 227 := ⟨by decide +kernel, rfl⟩
theorem d_Mo_apply_227 : j_E jm_Mo_apply 227 .goto (-54) 230 173 := ⟨by decide +kernel, rfl, by decide⟩
theorem d_Mo_apply_230 : j_D jm_Mo_apply 230 (.iload 4) 2 232 := ⟨by decide +kernel, rfl⟩
theorem d_Mo_apply_232 : j_D jm_Mo_apply 232 (.aload_n 0) 1 233 := ⟨by decide +kernel, rfl⟩
theorem d_Mo_apply_233 : j_D jm_Mo_apply 233 (.getfield 67) 3 236 := ⟨by decide +kernel, rfl⟩
theorem d_Mo_apply_236 : j_D jm_Mo_apply 236 (.iload 5) 2 238 := ⟨by decide +kernel, rfl⟩
theorem d_Mo_apply_238 : j_D jm_Mo_apply 238 .iaload 1 239 := ⟨by decide +kernel, rfl⟩
theorem d_Mo_apply_239 : j_D jm_Mo_apply 239 .iadd 1 240 := ⟨by decide +kernel, rfl⟩
theorem d_Mo_apply_240 : j_D jm_Mo_apply 240 (.istore 4) 2 242 := ⟨by decide +kernel, rfl⟩
theorem d_Mo_apply_242 : j_D jm_Mo_apply 242 (.iinc 5 1) 3 245 := ⟨by decide +kernel, rfl⟩
theorem d_Mo_apply_245 : j_E jm_Mo_apply 245 .goto (-118) 248 127 := ⟨by decide +kernel, rfl, by decide⟩
theorem d_Mo_apply_248 : j_D jm_Mo_apply 248 (.iload 4) 2 250 := ⟨by decide +kernel, rfl⟩
theorem d_Mo_apply_250 : j_D jm_Mo_apply 250 (.aload_n 0) 1 251 := ⟨by decide +kernel, rfl⟩
theorem d_Mo_apply_251 : j_D jm_Mo_apply 251 (.getfield 13) 3 254 := ⟨by decide +kernel, rfl⟩
theorem d_Mo_apply_254 : j_D jm_Mo_apply 254 (.iload_n 1) 1 255 := ⟨by decide +kernel, rfl⟩
theorem d_Mo_apply_255 : j_D jm_Mo_apply 255 .iaload 1 256 := ⟨by decide +kernel, rfl⟩
theorem d_Mo_apply_256 : j_E jm_Mo_apply 256 (.if_icmp .ge) 25 259 281 := ⟨by decide +kernel, rfl, by decide⟩
theorem d_Mo_apply_259 : j_D jm_Mo_apply 259 (.aload_n 0) 1 260 := ⟨by decide +kernel, rfl⟩
theorem d_Mo_apply_260 : j_D jm_Mo_apply 260 (.aload_n 0) 1 261 := ⟨by decide +kernel, rfl⟩
theorem d_Mo_apply_261 : j_D jm_Mo_apply 261 (.getfield 7) 3 264 := ⟨by decide +kernel, rfl⟩
theorem d_Mo_apply_264 : j_D jm_Mo_apply 264 (.bipush 24) 2 266 := ⟨by decide +kernel, rfl⟩
theorem d_Mo_apply_266 : j_D jm_Mo_apply 266 (.iload_n 1) 1 267 := ⟨by decide +kernel, rfl⟩
theorem d_Mo_apply_267 : j_D jm_Mo_apply 267 .imul 1 268 := ⟨by decide +kernel, rfl⟩
theorem d_Mo_apply_268 : j_D jm_Mo_apply 268 (.iload 4) 2 270 := ⟨by decide +kernel, rfl⟩
theorem d_Mo_apply_270 : j_D jm_Mo_apply 270 .iadd 1 271 := ⟨by decide +kernel, rfl⟩
theorem d_Mo_apply_271 : j_D jm_Mo_apply 271 .iaload 1 272 := ⟨by decide +kernel, rfl⟩
theorem d_Mo_apply_272 : j_D jm_Mo_apply 272 (.invokevirtual 208) 3 275 := ⟨by decide +kernel, rfl⟩
theorem d_Mo_apply_275 : j_D jm_Mo_apply 275 (.iinc 4 1) 3 278 := ⟨by decide +kernel, rfl⟩
theorem d_Mo_apply_278 : j_E jm_Mo_apply 278 .goto (-30) 281 248 := ⟨by decide +kernel, rfl, by decide⟩
theorem d_Mo_apply_281 : j_D jm_Mo_apply 281 (.aload_n 0) 1 282 := ⟨by decide +kernel, rfl⟩
theorem d_Mo_apply_282 : j_D jm_Mo_apply 282 (.iload_n 1) 1 283 := ⟨by decide +kernel, rfl⟩
theorem d_Mo_apply_283 : j_D jm_Mo_apply 283 (.invokevirtual 211) 3 286 := ⟨by decide +kernel, rfl⟩
theorem d_Mo_apply_286 : j_D jm_Mo_apply 286 (.aload_n 0) 1 287 := ⟨by decide +kernel, rfl⟩
theorem d_Mo_apply_287 : j_D jm_Mo_apply 287 (.getfield 187) 3 290 := ⟨by decide +kernel, rfl⟩
theorem d_Mo_apply_290 : j_D jm_Mo_apply 290 .ireturn 1 291 := ⟨by decide +kernel, rfl⟩
theorem d_Mo_keep_0 : j_D jm_Mo_keep 0 (.aload_n 0) 1 1 := ⟨by decide +kernel, rfl⟩
theorem d_Mo_keep_1 : j_D jm_Mo_keep 1 (.getfield 13) 3 4 := ⟨by decide +kernel, rfl⟩
theorem d_Mo_keep_4 : j_D jm_Mo_keep 4 (.iload_n 1) 1 5 := ⟨by decide +kernel, rfl⟩
theorem d_Mo_keep_5 : j_D jm_Mo_keep 5 (.aload_n 0) 1 6 := ⟨by decide +kernel, rfl⟩
theorem d_Mo_keep_6 : j_D jm_Mo_keep 6 (.getfield 199) 3 9 := ⟨by decide +kernel, rfl⟩
theorem d_Mo_keep_9 : j_D jm_Mo_keep 9 .iastore 1 10 := ⟨by decide +kernel, rfl⟩
theorem d_Mo_keep_10 : j_D jm_Mo_keep 10 (.iconst 0) 1 11 := ⟨by decide +kernel, rfl⟩
theorem d_Mo_keep_11 : j_D jm_Mo_keep 11 (.istore_n 2) 1 12 := ⟨by decide +kernel, rfl⟩
theorem d_Mo_keep_12 : j_D jm_Mo_keep 12 (.iload_n 2) 1 13 := ⟨by decide +kernel, rfl⟩
theorem d_Mo_keep_13 : j_D jm_Mo_keep 13 (.aload_n 0) 1 14 := ⟨by decide +kernel, rfl⟩
theorem d_Mo_keep_14 : j_D jm_Mo_keep 14 (.getfield 199) 3 17 := ⟨by decide +kernel, rfl⟩
theorem d_Mo_keep_17 : j_E jm_Mo_keep 17 (.if_icmp .ge) 26 20 43 := ⟨by decide +kernel, rfl, by decide⟩
theorem d_Mo_keep_20 : j_D jm_Mo_keep 20 (.aload_n 0) 1 21 := ⟨by decide +kernel, rfl⟩
theorem d_Mo_keep_21 : j_D jm_Mo_keep 21 (.getfield 7) 3 24 := ⟨by decide +kernel, rfl⟩
theorem d_Mo_keep_24 : j_D jm_Mo_keep 24 (.bipush 24) 2 26 := ⟨by decide +kernel, rfl⟩
theorem d_Mo_keep_26 : j_D jm_Mo_keep 26 (.iload_n 1) 1 27 := ⟨by decide +kernel, rfl⟩
theorem d_Mo_keep_27 : j_D jm_Mo_keep 27 .imul 1 28 := ⟨by decide +kernel, rfl⟩
theorem d_Mo_keep_28 : j_D jm_Mo_keep 28 (.iload_n 2) 1 29 := ⟨by decide +kernel, rfl⟩
theorem d_Mo_keep_29 : j_D jm_Mo_keep 29 .iadd 1 30 := ⟨by decide +kernel, rfl⟩
theorem d_Mo_keep_30 : j_D jm_Mo_keep 30 (.aload_n 0) 1 31 := ⟨by decide +kernel, rfl⟩
theorem d_Mo_keep_31 : j_D jm_Mo_keep 31 (.getfield 82) 3 34 := ⟨by decide +kernel, rfl⟩
theorem d_Mo_keep_34 : j_D jm_Mo_keep 34 (.iload_n 2) 1 35 := ⟨by decide +kernel, rfl⟩
theorem d_Mo_keep_35 : j_D jm_Mo_keep 35 .iaload 1 36 := ⟨by decide +kernel, rfl⟩
theorem d_Mo_keep_36 : j_D jm_Mo_keep 36 .iastore 1 37 := ⟨by decide +kernel, rfl⟩
theorem d_Mo_keep_37 : j_D jm_Mo_keep 37 (.iinc 2 1) 3 40 := ⟨by decide +kernel, rfl⟩
theorem d_Mo_keep_40 : j_E jm_Mo_keep 40 .goto (-28) 43 12 := ⟨by decide +kernel, rfl, by decide⟩
theorem d_Mo_keep_43 : j_D jm_Mo_keep 43 .return_ 1 44 := ⟨by decide +kernel, rfl⟩
theorem d_Mo_sameParts_0 : j_D jm_Mo_sameParts 0 (.iload_n 3) 1 1 := ⟨by decide +kernel, rfl⟩
theorem d_Mo_sameParts_1 : j_D jm_Mo_sameParts 1 (.iload_n 2) 1 2 := ⟨by decide +kernel, rfl⟩
theorem d_Mo_sameParts_2 : j_D jm_Mo_sameParts 2 .isub 1 3 := ⟨by decide +kernel, rfl⟩
theorem d_Mo_sameParts_3 : j_D jm_Mo_sameParts 3 (.iload 6) 2 5 := ⟨by decide +kernel, rfl⟩
theorem d_Mo_sameParts_5 : j_D jm_Mo_sameParts 5 (.iload 5) 2 7 := ⟨by decide +kernel, rfl⟩
theorem d_Mo_sameParts_7 : j_D jm_Mo_sameParts 7 .isub 1 8 := ⟨by decide +kernel, rfl⟩
theorem d_Mo_sameParts_8 : j_E jm_Mo_sameParts 8 (.if_icmp .ne) 7 11 15 := ⟨by decide +kernel, rfl, by decide⟩
theorem d_Mo_sameParts_11 : j_D jm_Mo_sameParts 11 (.iconst 1) 1 12 := ⟨by decide +kernel, rfl⟩
theorem d_Mo_sameParts_12 : j_E jm_Mo_sameParts 12 .goto 4 15 16 := ⟨by decide +kernel, rfl, by decide⟩
theorem d_Mo_sameParts_15 : j_D jm_Mo_sameParts 15 (.iconst 0) 1 16 := ⟨by decide +kernel, rfl⟩
theorem d_Mo_sameParts_16 : j_D jm_Mo_sameParts 16 (.istore 7) 2 18 := ⟨by decide +kernel, rfl⟩
theorem d_Mo_sameParts_18 : j_D jm_Mo_sameParts 18 (.iconst 0) 1 19 := ⟨by decide +kernel, rfl⟩
theorem d_Mo_sameParts_19 : j_D jm_Mo_sameParts 19 (.istore 8) 2 21 := ⟨by decide +kernel, rfl⟩
theorem d_Mo_sameParts_21 : j_D jm_Mo_sameParts 21 (.iload 8) 2 23 := ⟨by decide +kernel, rfl⟩
theorem d_Mo_sameParts_23 : j_D jm_Mo_sameParts 23 (.iload_n 3) 1 24 := ⟨by decide +kernel, rfl⟩
theorem d_Mo_sameParts_24 : j_D jm_Mo_sameParts 24 (.iload_n 2) 1 25 := ⟨by decide +kernel, rfl⟩
theorem d_Mo_sameParts_25 : j_D jm_Mo_sameParts 25 .isub 1 26 := ⟨by decide +kernel, rfl⟩
theorem d_Mo_sameParts_26 : j_E jm_Mo_sameParts 26 (.if_icmp .ge) 54 29 80 := ⟨by decide +kernel, rfl, by decide⟩
theorem d_Mo_sameParts_29 : j_D jm_Mo_sameParts 29 (.iload 7) 2 31 := ⟨by decide +kernel, rfl⟩
theorem d_Mo_sameParts_31 : j_E jm_Mo_sameParts 31 (.ifCond .eq) 49 34 80 := ⟨by decide +kernel, rfl, by decide⟩
theorem d_Mo_sameParts_34 : j_D jm_Mo_sameParts 34 (.aload_n 0) 1 35 := ⟨by decide +kernel, rfl⟩
theorem d_Mo_sameParts_35 : j_D jm_Mo_sameParts 35 (.getfield 7) 3 38 := ⟨by decide +kernel, rfl⟩
theorem d_Mo_sameParts_38 : j_D jm_Mo_sameParts 38 (.bipush 24) 2 40 := ⟨by decide +kernel, rfl⟩
theorem d_Mo_sameParts_40 : j_D jm_Mo_sameParts 40 (.iload_n 1) 1 41 := ⟨by decide +kernel, rfl⟩
theorem d_Mo_sameParts_41 : j_D jm_Mo_sameParts 41 .imul 1 42 := ⟨by decide +kernel, rfl⟩
theorem d_Mo_sameParts_42 : j_D jm_Mo_sameParts 42 (.iload_n 2) 1 43 := ⟨by decide +kernel, rfl⟩
theorem d_Mo_sameParts_43 : j_D jm_Mo_sameParts 43 .iadd 1 44 := ⟨by decide +kernel, rfl⟩
theorem d_Mo_sameParts_44 : j_D jm_Mo_sameParts 44 (.iload 8) 2 46 := ⟨by decide +kernel, rfl⟩
theorem d_Mo_sameParts_46 : j_D jm_Mo_sameParts 46 .iadd 1 47 := ⟨by decide +kernel, rfl⟩
theorem d_Mo_sameParts_47 : j_D jm_Mo_sameParts 47 .iaload 1 48 := ⟨by decide +kernel, rfl⟩
theorem d_Mo_sameParts_48 : j_D jm_Mo_sameParts 48 (.aload_n 0) 1 49 := ⟨by decide +kernel, rfl⟩
theorem d_Mo_sameParts_49 : j_D jm_Mo_sameParts 49 (.getfield 7) 3 52 := ⟨by decide +kernel, rfl⟩
theorem d_Mo_sameParts_52 : j_D jm_Mo_sameParts 52 (.bipush 24) 2 54 := ⟨by decide +kernel, rfl⟩
theorem d_Mo_sameParts_54 : j_D jm_Mo_sameParts 54 (.iload 4) 2 56 := ⟨by decide +kernel, rfl⟩
theorem d_Mo_sameParts_56 : j_D jm_Mo_sameParts 56 .imul 1 57 := ⟨by decide +kernel, rfl⟩
theorem d_Mo_sameParts_57 : j_D jm_Mo_sameParts 57 (.iload 5) 2 59 := ⟨by decide +kernel, rfl⟩
theorem d_Mo_sameParts_59 : j_D jm_Mo_sameParts 59 .iadd 1 60 := ⟨by decide +kernel, rfl⟩
theorem d_Mo_sameParts_60 : j_D jm_Mo_sameParts 60 (.iload 8) 2 62 := ⟨by decide +kernel, rfl⟩
theorem d_Mo_sameParts_62 : j_D jm_Mo_sameParts 62 .iadd 1 63 := ⟨by decide +kernel, rfl⟩
theorem d_Mo_sameParts_63 : j_D jm_Mo_sameParts 63 .iaload 1 64 := ⟨by decide +kernel, rfl⟩
theorem d_Mo_sameParts_64 : j_E jm_Mo_sameParts 64 (.if_icmp .ne) 7 67 71 := ⟨by decide +kernel, rfl, by decide⟩
theorem d_Mo_sameParts_67 : j_D jm_Mo_sameParts 67 (.iconst 1) 1 68 := ⟨by decide +kernel, rfl⟩
theorem d_Mo_sameParts_68 : j_E jm_Mo_sameParts 68 .goto 4 71 72 := ⟨by decide +kernel, rfl, by decide⟩
theorem d_Mo_sameParts_71 : j_D jm_Mo_sameParts 71 (.iconst 0) 1 72 := ⟨by decide +kernel, rfl⟩
theorem d_Mo_sameParts_72 : j_D jm_Mo_sameParts 72 (.istore 7) 2 74 := ⟨by decide +kernel, rfl⟩
theorem d_Mo_sameParts_74 : j_D jm_Mo_sameParts 74 (.iinc 8 1) 3 77 := ⟨by decide +kernel, rfl⟩
theorem d_Mo_sameParts_77 : j_E jm_Mo_sameParts 77 .goto (-56) 80 21 := ⟨by decide +kernel, rfl, by decide⟩
theorem d_Mo_sameParts_80 : j_D jm_Mo_sameParts 80 (.iload 7) 2 82 := ⟨by decide +kernel, rfl⟩
theorem d_Mo_sameParts_82 : j_D jm_Mo_sameParts 82 .ireturn 1 83 := ⟨by decide +kernel, rfl⟩
theorem d_Mo_tryEmit_0 : j_D jm_Mo_tryEmit 0 (.aload_n 0) 1 1 := ⟨by decide +kernel, rfl⟩
theorem d_Mo_tryEmit_1 : j_D jm_Mo_tryEmit 1 (.getfield 199) 3 4 := ⟨by decide +kernel, rfl⟩
theorem d_Mo_tryEmit_4 : j_D jm_Mo_tryEmit 4 (.bipush 24) 2 6 := ⟨by decide +kernel, rfl⟩
theorem d_Mo_tryEmit_6 : j_E jm_Mo_tryEmit 6 (.if_icmp .ne) 5 9 11 := ⟨by decide +kernel, rfl, by decide⟩
theorem d_Mo_tryEmit_9 : j_D jm_Mo_tryEmit 9 (.iconst 0) 1 10 := ⟨by decide +kernel, rfl⟩
theorem d_Mo_tryEmit_10 : j_D jm_Mo_tryEmit 10 .ireturn 1 11 := ⟨by decide +kernel, rfl⟩
theorem d_Mo_tryEmit_11 : j_D jm_Mo_tryEmit 11 (.aload_n 0) 1 12 := ⟨by decide +kernel, rfl⟩
theorem d_Mo_tryEmit_12 : j_D jm_Mo_tryEmit 12 (.iload_n 1) 1 13 := ⟨by decide +kernel, rfl⟩
theorem d_Mo_tryEmit_13 : j_D jm_Mo_tryEmit 13 (.invokevirtual 208) 3 16 := ⟨by decide +kernel, rfl⟩
theorem d_Mo_tryEmit_16 : j_D jm_Mo_tryEmit 16 (.iconst 1) 1 17 := ⟨by decide +kernel, rfl⟩
theorem d_Mo_tryEmit_17 : j_D jm_Mo_tryEmit 17 .ireturn 1 18 := ⟨by decide +kernel, rfl⟩
theorem d_Mo_emitPart_0 : j_D jm_Mo_emitPart 0 (.iconst 1) 1 1 := ⟨by decide +kernel, rfl⟩
theorem d_Mo_emitPart_1 : j_D jm_Mo_emitPart 1 (.istore 4) 2 3 := ⟨by decide +kernel, rfl⟩
theorem d_Mo_emitPart_3 : j_D jm_Mo_emitPart 3 (.iload_n 2) 1 4 := ⟨by decide +kernel, rfl⟩
theorem d_Mo_emitPart_4 : j_D jm_Mo_emitPart 4 (.istore 5) 2 6 := ⟨by decide +kernel, rfl⟩
theorem d_Mo_emitPart_6 : j_D jm_Mo_emitPart 6 (.iload 5) 2 8 := ⟨by decide +kernel, rfl⟩
theorem d_Mo_emitPart_8 : j_D jm_Mo_emitPart 8 (.iload_n 3) 1 9 := ⟨by decide +kernel, rfl⟩
theorem d_Mo_emitPart_9 : j_E jm_Mo_emitPart 9 (.if_icmp .ge) 32 12 41 := ⟨by decide +kernel, rfl, by decide⟩
theorem d_Mo_emitPart_12 : j_D jm_Mo_emitPart 12 (.iload 4) 2 14 := ⟨by decide +kernel, rfl⟩
theorem d_Mo_emitPart_14 : j_E jm_Mo_emitPart 14 (.ifCond .eq) 27 17 41 := ⟨by decide +kernel, rfl, by decide⟩
theorem d_Mo_emitPart_17 : j_D jm_Mo_emitPart 17 (.aload_n 0) 1 18 := ⟨by decide +kernel, rfl⟩
theorem d_Mo_emitPart_18 : j_D jm_Mo_emitPart 18 (.aload_n 0) 1 19 := ⟨by decide +kernel, rfl⟩
theorem d_Mo_emitPart_19 : j_D jm_Mo_emitPart 19 (.getfield 7) 3 22 := ⟨by decide +kernel, rfl⟩
theorem d_Mo_emitPart_22 : j_D jm_Mo_emitPart 22 (.bipush 24) 2 24 := ⟨by decide +kernel, rfl⟩
theorem d_Mo_emitPart_24 : j_D jm_Mo_emitPart 24 (.iload_n 1) 1 25 := ⟨by decide +kernel, rfl⟩
theorem d_Mo_emitPart_25 : j_D jm_Mo_emitPart 25 .imul 1 26 := ⟨by decide +kernel, rfl⟩
theorem d_Mo_emitPart_26 : j_D jm_Mo_emitPart 26 (.iload 5) 2 28 := ⟨by decide +kernel, rfl⟩
theorem d_Mo_emitPart_28 : j_D jm_Mo_emitPart 28 .iadd 1 29 := ⟨by decide +kernel, rfl⟩
theorem d_Mo_emitPart_29 : j_D jm_Mo_emitPart 29 .iaload 1 30 := ⟨by decide +kernel, rfl⟩
theorem d_Mo_emitPart_30 : j_D jm_Mo_emitPart 30 (.invokevirtual 214) 3 33 := ⟨by decide +kernel, rfl⟩
theorem d_Mo_emitPart_33 : j_D jm_Mo_emitPart 33 (.istore 4) 2 35 := ⟨by decide +kernel, rfl⟩
theorem d_Mo_emitPart_35 : j_D jm_Mo_emitPart 35 (.iinc 5 1) 3 38 := ⟨by decide +kernel, rfl⟩
theorem d_Mo_emitPart_38 : j_E jm_Mo_emitPart 38 .goto (-32) 41 6 := ⟨by decide +kernel, rfl, by decide⟩
theorem d_Mo_emitPart_41 : j_D jm_Mo_emitPart 41 (.iload 4) 2 43 := ⟨by decide +kernel, rfl⟩
theorem d_Mo_emitPart_43 : j_D jm_Mo_emitPart 43 .ireturn 1 44 := ⟨by decide +kernel, rfl⟩
theorem d_Mo_mergeParts_0 : j_D jm_Mo_mergeParts 0 (.aload_n 0) 1 1 := ⟨by decide +kernel, rfl⟩
theorem d_Mo_mergeParts_1 : j_D jm_Mo_mergeParts 1 (.iconst 1) 1 2 := ⟨by decide +kernel, rfl⟩
theorem d_Mo_mergeParts_2 : j_D jm_Mo_mergeParts 2 (.iload_n 3) 1 3 := ⟨by decide +kernel, rfl⟩
theorem d_Mo_mergeParts_3 : j_D jm_Mo_mergeParts 3 (.iload 4) 2 5 := ⟨by decide +kernel, rfl⟩
theorem d_Mo_mergeParts_5 : j_D jm_Mo_mergeParts 5 (.iconst 0) 1 6 := ⟨by decide +kernel, rfl⟩
theorem d_Mo_mergeParts_6 : j_D jm_Mo_mergeParts 6 (.iload_n 1) 1 7 := ⟨by decide +kernel, rfl⟩
theorem d_Mo_mergeParts_7 : j_D jm_Mo_mergeParts 7 (.iload_n 2) 1 8 := ⟨by decide +kernel, rfl⟩
theorem d_Mo_mergeParts_8 : j_D jm_Mo_mergeParts 8 (.invokevirtual 217) 3 11 := ⟨by decide +kernel, rfl⟩
theorem d_Mo_mergeParts_11 : j_E jm_Mo_mergeParts 11 (.ifCond .eq) 21 14 32 := ⟨by decide +kernel, rfl, by decide⟩
theorem d_Mo_mergeParts_14 : j_D jm_Mo_mergeParts 14 (.aload_n 0) 1 15 := ⟨by decide +kernel, rfl⟩
theorem d_Mo_mergeParts_15 : j_D jm_Mo_mergeParts 15 (.iconst 2) 1 16 := ⟨by decide +kernel, rfl⟩
theorem d_Mo_mergeParts_16 : j_D jm_Mo_mergeParts 16 (.iload 5) 2 18 := ⟨by decide +kernel, rfl⟩
theorem d_Mo_mergeParts_18 : j_D jm_Mo_mergeParts 18 (.iload 6) 2 20 := ⟨by decide +kernel, rfl⟩
theorem d_Mo_mergeParts_20 : j_D jm_Mo_mergeParts 20 (.invokevirtual 221) 3 23 := ⟨by decide +kernel, rfl⟩
theorem d_Mo_mergeParts_23 : j_E jm_Mo_mergeParts 23 (.ifCond .eq) 7 26 30 := ⟨by decide +kernel, rfl, by decide⟩
theorem d_Mo_mergeParts_26 : j_D jm_Mo_mergeParts 26 (.iconst 0) 1 27 := ⟨by decide +kernel, rfl⟩
theorem d_Mo_mergeParts_27 : j_E jm_Mo_mergeParts 27 .goto 4 30 31 := ⟨by decide +kernel, rfl, by decide⟩
theorem d_Mo_mergeParts_30 : j_D jm_Mo_mergeParts 30 (.iconst (-1)) 1 31 := ⟨by decide +kernel, rfl⟩
theorem d_Mo_mergeParts_31 : j_D jm_Mo_mergeParts 31 .ireturn 1 32 := ⟨by decide +kernel, rfl⟩
theorem d_Mo_mergeParts_32 : j_D jm_Mo_mergeParts 32 (.aload_n 0) 1 33 := ⟨by decide +kernel, rfl⟩
theorem d_Mo_mergeParts_33 : j_D jm_Mo_mergeParts 33 (.iconst 2) 1 34 := ⟨by decide +kernel, rfl⟩
theorem d_Mo_mergeParts_34 : j_D jm_Mo_mergeParts 34 (.iload 5) 2 36 := ⟨by decide +kernel, rfl⟩
theorem d_Mo_mergeParts_36 : j_D jm_Mo_mergeParts 36 (.iload 6) 2 38 := ⟨by decide +kernel, rfl⟩
theorem d_Mo_mergeParts_38 : j_D jm_Mo_mergeParts 38 (.iconst 0) 1 39 := ⟨by decide +kernel, rfl⟩
theorem d_Mo_mergeParts_39 : j_D jm_Mo_mergeParts 39 (.iload_n 1) 1 40 := ⟨by decide +kernel, rfl⟩
theorem d_Mo_mergeParts_40 : j_D jm_Mo_mergeParts 40 (.iload_n 2) 1 41 := ⟨by decide +kernel, rfl⟩
theorem d_Mo_mergeParts_41 : j_D jm_Mo_mergeParts 41 (.invokevirtual 217) 3 44 := ⟨by decide +kernel, rfl⟩
theorem d_Mo_mergeParts_44 : j_E jm_Mo_mergeParts 44 (.ifCond .ne) 19 47 63 := ⟨by decide +kernel, rfl, by decide⟩
theorem d_Mo_mergeParts_47 : j_D jm_Mo_mergeParts 47 (.aload_n 0) 1 48 := ⟨by decide +kernel, rfl⟩
theorem d_Mo_mergeParts_48 : j_D jm_Mo_mergeParts 48 (.iconst 2) 1 49 := ⟨by decide +kernel, rfl⟩
theorem d_Mo_mergeParts_49 : j_D jm_Mo_mergeParts 49 (.iload 5) 2 51 := ⟨by decide +kernel, rfl⟩
theorem d_Mo_mergeParts_51 : j_D jm_Mo_mergeParts 51 (.iload 6) 2 53 := ⟨by decide +kernel, rfl⟩
theorem d_Mo_mergeParts_53 : j_D jm_Mo_mergeParts 53 (.iconst 1) 1 54 := ⟨by decide +kernel, rfl⟩
theorem d_Mo_mergeParts_54 : j_D jm_Mo_mergeParts 54 (.iload_n 3) 1 55 := ⟨by decide +kernel, rfl⟩
theorem d_Mo_mergeParts_55 : j_D jm_Mo_mergeParts 55 (.iload 4) 2 57 := ⟨by decide +kernel, rfl⟩
theorem d_Mo_mergeParts_57 : j_D jm_Mo_mergeParts 57 (.invokevirtual 217) 3 60 := ⟨by decide +kernel, rfl⟩
theorem d_Mo_mergeParts_60 : j_E jm_Mo_mergeParts 60 (.ifCond .eq) 20 63 80 := ⟨by decide +kernel, rfl, by decide⟩
theorem d_Mo_mergeParts_63 : j_D jm_Mo_mergeParts 63 (.aload_n 0) 1 64 := ⟨by decide +kernel, rfl⟩
theorem d_Mo_mergeParts_64 : j_D jm_Mo_mergeParts 64 (.iconst 1) 1 65 := ⟨by decide +kernel, rfl⟩
theorem d_Mo_mergeParts_65 : j_D jm_Mo_mergeParts 65 (.iload_n 3) 1 66 := ⟨by decide +kernel, rfl⟩
theorem d_Mo_mergeParts_66 : j_D jm_Mo_mergeParts 66 (.iload 4) 2 68 := ⟨by decide +kernel, rfl⟩
theorem d_Mo_mergeParts_68 : j_D jm_Mo_mergeParts 68 (.invokevirtual 221) 3 71 := ⟨by decide +kernel, rfl⟩
theorem d_Mo_mergeParts_71 : j_E jm_Mo_mergeParts 71 (.ifCond .eq) 7 74 78 := ⟨by decide +kernel, rfl, by decide⟩
theorem d_Mo_mergeParts_74 : j_D jm_Mo_mergeParts 74 (.iconst 0) 1 75 := ⟨by decide +kernel, rfl⟩
theorem d_Mo_mergeParts_75 : j_E jm_Mo_mergeParts 75 .goto 4 78 79 := ⟨by decide +kernel, rfl, by decide⟩
theorem d_Mo_mergeParts_78 : j_D jm_Mo_mergeParts 78 (.iconst (-1)) 1 79 := ⟨by decide +kernel, rfl⟩
theorem d_Mo_mergeParts_79 : j_D jm_Mo_mergeParts 79 .ireturn 1 80 := ⟨by decide +kernel, rfl⟩
theorem d_Mo_mergeParts_80 : j_D jm_Mo_mergeParts 80 (.aload_n 0) 1 81 := ⟨by decide +kernel, rfl⟩
theorem d_Mo_mergeParts_81 : j_D jm_Mo_mergeParts 81 (.bipush 60) 2 83 := ⟨by decide +kernel, rfl⟩
theorem d_Mo_mergeParts_83 : j_D jm_Mo_mergeParts 83 (.invokevirtual 214) 3 86 := ⟨by decide +kernel, rfl⟩
theorem d_Mo_mergeParts_86 : j_E jm_Mo_mergeParts 86 (.ifCond .eq) 48 89 134 := ⟨by decide +kernel, rfl, by decide⟩
theorem d_Mo_mergeParts_89 : j_D jm_Mo_mergeParts 89 (.aload_n 0) 1 90 := ⟨by decide +kernel, rfl⟩
theorem d_Mo_mergeParts_90 : j_D jm_Mo_mergeParts 90 (.iconst 1) 1 91 := ⟨by decide +kernel, rfl⟩
theorem d_Mo_mergeParts_91 : j_D jm_Mo_mergeParts 91 (.iload_n 3) 1 92 := ⟨by decide +kernel, rfl⟩
theorem d_Mo_mergeParts_92 : j_D jm_Mo_mergeParts 92 (.iload 4) 2 94 := ⟨by decide +kernel, rfl⟩
theorem d_Mo_mergeParts_94 : j_D jm_Mo_mergeParts 94 (.invokevirtual 221) 3 97 := ⟨by decide +kernel, rfl⟩
theorem d_Mo_mergeParts_97 : j_E jm_Mo_mergeParts 97 (.ifCond .eq) 37 100 134 := ⟨by decide +kernel, rfl, by decide⟩
theorem d_Mo_mergeParts_100 : j_D jm_Mo_mergeParts 100 (.aload_n 0) 1 101 := ⟨by decide +kernel, rfl⟩
theorem d_Mo_mergeParts_101 : j_D jm_Mo_mergeParts 101 (.bipush 61) 2 103 := ⟨by decide +kernel, rfl⟩
theorem d_Mo_mergeParts_103 : j_D jm_Mo_mergeParts 103 (.invokevirtual 214) 3 106 := ⟨by decide +kernel, rfl⟩
theorem d_Mo_mergeParts_106 : j_E jm_Mo_mergeParts 106 (.ifCond .eq) 28 109 134 := ⟨by decide +kernel, rfl, by decide⟩
theorem d_Mo_mergeParts_109 : j_D jm_Mo_mergeParts 109 (.aload_n 0) 1 110 := ⟨by decide +kernel, rfl⟩
theorem d_Mo_mergeParts_110 : j_D jm_Mo_mergeParts 110 (.iconst 2) 1 111 := ⟨by decide +kernel, rfl⟩
theorem d_Mo_mergeParts_111 : j_D jm_Mo_mergeParts 111 (.iload 5) 2 113 := ⟨by decide +kernel, rfl⟩
theorem d_Mo_mergeParts_113 : j_D jm_Mo_mergeParts 113 (.iload 6) 2 115 := ⟨by decide +kernel, rfl⟩
theorem d_Mo_mergeParts_115 : j_D jm_Mo_mergeParts 115 (.invokevirtual 221) 3 118 := ⟨by decide +kernel, rfl⟩
theorem d_Mo_mergeParts_118 : j_E jm_Mo_mergeParts 118 (.ifCond .eq) 16 121 134 := ⟨by decide +kernel, rfl, by decide⟩
theorem d_Mo_mergeParts_121 : j_D jm_Mo_mergeParts 121 (.aload_n 0) 1 122 := ⟨by decide +kernel, rfl⟩
theorem d_Mo_mergeParts_122 : j_D jm_Mo_mergeParts 122 (.bipush 62) 2 124 := ⟨by decide +kernel, rfl⟩
theorem d_Mo_mergeParts_124 : j_D jm_Mo_mergeParts 124 (.invokevirtual 214) 3 127 := ⟨by decide +kernel, rfl⟩
theorem d_Mo_mergeParts_127 : j_E jm_Mo_mergeParts 127 (.ifCond .eq) 7 130 134 := ⟨by decide +kernel, rfl, by decide⟩
theorem d_Mo_mergeParts_130 : j_D jm_Mo_mergeParts 130 (.iconst 1) 1 131 := ⟨by decide +kernel, rfl⟩
theorem d_Mo_mergeParts_131 : j_E jm_Mo_mergeParts 131 .goto 4 134 135 := ⟨by decide +kernel, rfl, by decide⟩
theorem d_Mo_mergeParts_134 : j_D jm_Mo_mergeParts 134 (.iconst 0) 1 135 := ⟨by decide +kernel, rfl⟩
theorem d_Mo_mergeParts_135 : j_D jm_Mo_mergeParts 135 (.istore 7) 2 137 := ⟨by decide +kernel, rfl⟩
theorem d_Mo_mergeParts_137 : j_D jm_Mo_mergeParts 137 (.iload 7) 2 139 := ⟨by decide +kernel, rfl⟩
theorem d_Mo_mergeParts_139 : j_E jm_Mo_mergeParts 139 (.ifCond .eq) 7 142 146 := ⟨by decide +kernel, rfl, by decide⟩
theorem d_Mo_mergeParts_142 : j_D jm_Mo_mergeParts 142 (.iconst 1) 1 143 := ⟨by decide +kernel, rfl⟩
theorem d_Mo_mergeParts_143 : j_E jm_Mo_mergeParts 143 .goto 4 146 147 := ⟨by decide +kernel, rfl, by decide⟩
theorem d_Mo_mergeParts_146 : j_D jm_Mo_mergeParts 146 (.iconst (-1)) 1 147 := ⟨by decide +kernel, rfl⟩
theorem d_Mo_mergeParts_147 : j_D jm_Mo_mergeParts 147 .ireturn 1 148 := ⟨by decide +kernel, rfl⟩
theorem d_Mo_merge_0 : j_D jm_Mo_merge 0 (.aload_n 0) 1 1 := ⟨by decide +kernel, rfl⟩
theorem d_Mo_merge_1 : j_D jm_Mo_merge 1 (.iconst 0) 1 2 := ⟨by decide +kernel, rfl⟩
theorem d_Mo_merge_2 : j_D jm_Mo_merge 2 (.invokevirtual 124) 3 5 := ⟨by decide +kernel, rfl⟩
theorem d_Mo_merge_5 : j_E jm_Mo_merge 5 (.ifCond .eq) 19 8 24 := ⟨by decide +kernel, rfl, by decide⟩
theorem d_Mo_merge_8 : j_D jm_Mo_merge 8 (.aload_n 0) 1 9 := ⟨by decide +kernel, rfl⟩
theorem d_Mo_merge_9 : j_D jm_Mo_merge 9 (.iconst 1) 1 10 := ⟨by decide +kernel, rfl⟩
theorem d_Mo_merge_10 : j_D jm_Mo_merge 10 (.invokevirtual 124) 3 13 := ⟨by decide +kernel, rfl⟩
theorem d_Mo_merge_13 : j_E jm_Mo_merge 13 (.ifCond .eq) 11 16 24 := ⟨by decide +kernel, rfl, by decide⟩
theorem d_Mo_merge_16 : j_D jm_Mo_merge 16 (.aload_n 0) 1 17 := ⟨by decide +kernel, rfl⟩
theorem d_Mo_merge_17 : j_D jm_Mo_merge 17 (.iconst 2) 1 18 := ⟨by decide +kernel, rfl⟩
theorem d_Mo_merge_18 : j_D jm_Mo_merge 18 (.invokevirtual 124) 3 21 := ⟨by decide +kernel, rfl⟩
theorem d_Mo_merge_21 : j_E jm_Mo_merge 21 (.ifCond .ne) 6 24 27 := ⟨by decide +kernel, rfl, by decide⟩
theorem d_Mo_merge_24 : j_D jm_Mo_merge 24 (.bipush (-3)) 2 26 := ⟨by decide +kernel, rfl⟩
theorem d_Mo_merge_26 : j_D jm_Mo_merge 26 .ireturn 1 27 := ⟨by decide +kernel, rfl⟩
theorem d_Mo_merge_27 : j_D jm_Mo_merge 27 (.aload_n 0) 1 28 := ⟨by decide +kernel, rfl⟩
theorem d_Mo_merge_28 : j_D jm_Mo_merge 28 (.iconst 0) 1 29 := ⟨by decide +kernel, rfl⟩
theorem d_Mo_merge_29 : j_D jm_Mo_merge 29 (.iconst 2) 1 30 := ⟨by decide +kernel, rfl⟩
theorem d_Mo_merge_30 : j_D jm_Mo_merge 30 (.invokevirtual 127) 3 33 := ⟨by decide +kernel, rfl⟩
theorem d_Mo_merge_33 : j_D jm_Mo_merge 33 (.aload_n 0) 1 34 := ⟨by decide +kernel, rfl⟩
theorem d_Mo_merge_34 : j_D jm_Mo_merge 34 (.iconst 0) 1 35 := ⟨by decide +kernel, rfl⟩
theorem d_Mo_merge_35 : j_D jm_Mo_merge 35 (.invokevirtual 131) 3 38 := ⟨by decide +kernel, rfl⟩
theorem d_Mo_merge_38 : j_D jm_Mo_merge 38 (.iconst 0) 1 39 := ⟨by decide +kernel, rfl⟩
theorem d_Mo_merge_39 : j_D jm_Mo_merge 39 (.istore_n 1) 1 40 := ⟨by decide +kernel, rfl⟩
theorem d_Mo_merge_40 : j_D jm_Mo_merge 40 (.iload_n 1) 1 41 := ⟨by decide +kernel, rfl⟩
theorem d_Mo_merge_41 : j_D jm_Mo_merge 41 (.aload_n 0) 1 42 := ⟨by decide +kernel, rfl⟩
theorem d_Mo_merge_42 : j_D jm_Mo_merge 42 (.getfield 96) 3 45 := ⟨by decide +kernel, rfl⟩
theorem d_Mo_merge_45 : j_E jm_Mo_merge 45 (.if_icmp .ge) 21 48 66 := ⟨by decide +kernel, rfl, by decide⟩
theorem d_Mo_merge_48 : j_D jm_Mo_merge 48 (.aload_n 0) 1 49 := ⟨by decide +kernel, rfl⟩
theorem d_Mo_merge_49 : j_D jm_Mo_merge 49 (.getfield 85) 3 52 := ⟨by decide +kernel, rfl⟩
theorem d_Mo_merge_52 : j_D jm_Mo_merge 52 (.iload_n 1) 1 53 := ⟨by decide +kernel, rfl⟩
theorem d_Mo_merge_53 : j_D jm_Mo_merge 53 (.aload_n 0) 1 54 := ⟨by decide +kernel, rfl⟩
theorem d_Mo_merge_54 : j_D jm_Mo_merge 54 (.getfield 22) 3 57 := ⟨by decide +kernel, rfl⟩
theorem d_Mo_merge_57 : j_D jm_Mo_merge 57 (.iload_n 1) 1 58 := ⟨by decide +kernel, rfl⟩
theorem d_Mo_merge_58 : j_D jm_Mo_merge 58 .iaload 1 59 := ⟨by decide +kernel, rfl⟩
theorem d_Mo_merge_59 : j_D jm_Mo_merge 59 .iastore 1 60 := ⟨by decide +kernel, rfl⟩
theorem d_Mo_merge_60 : j_D jm_Mo_merge 60 (.iinc 1 1) 3 63 := ⟨by decide +kernel, rfl⟩
theorem d_Mo_merge_63 : j_E jm_Mo_merge 63 .goto (-23) 66 40 := ⟨by decide +kernel, rfl, by decide⟩
theorem d_Mo_merge_66 : j_D jm_Mo_merge 66 (.aload_n 0) 1 67 := ⟨by decide +kernel, rfl⟩
theorem d_Mo_merge_67 : j_D jm_Mo_merge 67 (.iconst 0) 1 68 := ⟨by decide +kernel, rfl⟩
theorem d_Mo_merge_68 : j_D jm_Mo_merge 68 (.iconst 1) 1 69 := ⟨by decide +kernel, rfl⟩
theorem d_Mo_merge_69 : j_D jm_Mo_merge 69 (.invokevirtual 127) 3 72 := ⟨by decide +kernel, rfl⟩
theorem d_Mo_merge_72 : j_D jm_Mo_merge 72 (.aload_n 0) 1 73 := ⟨by decide +kernel, rfl⟩
theorem d_Mo_merge_73 : j_D jm_Mo_merge 73 (.iconst 0) 1 74 := ⟨by decide +kernel, rfl⟩
theorem d_Mo_merge_74 : j_D jm_Mo_merge 74 (.invokevirtual 131) 3 77 := ⟨by decide +kernel, rfl⟩
theorem d_Mo_merge_77 : j_D jm_Mo_merge 77 (.aload_n 0) 1 78 := ⟨by decide +kernel, rfl⟩
theorem d_Mo_merge_78 : j_D jm_Mo_merge 78 (.iconst 0) 1 79 := ⟨by decide +kernel, rfl⟩
theorem d_Mo_merge_79 : j_D jm_Mo_merge 79 (.putfield 199) 3 82 := ⟨by decide +kernel, rfl⟩
theorem d_Mo_merge_82 : j_D jm_Mo_merge 82 (.iconst 0) 1 83 := ⟨by decide +kernel, rfl⟩
theorem d_Mo_merge_83 : j_D jm_Mo_merge 83 (.istore_n 1) 1 84 := ⟨by decide +kernel, rfl⟩
theorem d_Mo_merge_84 : j_D jm_Mo_merge 84 (.iconst 0) 1 85 := ⟨by decide +kernel, rfl⟩
theorem d_Mo_merge_85 : j_D jm_Mo_merge 85 (.istore_n 2) 1 86 := ⟨by decide +kernel, rfl⟩
theorem d_Mo_merge_86 : j_D jm_Mo_merge 86 (.iconst 0) 1 87 := ⟨by decide +kernel, rfl⟩
theorem d_Mo_merge_87 : j_D jm_Mo_merge 87 (.istore_n 3) 1 88 := ⟨by decide +kernel, rfl⟩
theorem d_Mo_merge_88 : j_D jm_Mo_merge 88 (.iconst 0) 1 89 := ⟨by decide +kernel, rfl⟩
theorem d_Mo_merge_89 : j_D jm_Mo_merge 89 (.istore 4) 2 91 := ⟨by decide +kernel, rfl⟩
theorem d_Mo_merge_91 : j_D jm_Mo_merge 91 (.iconst 0) 1 92 := ⟨by decide +kernel, rfl⟩
theorem d_Mo_merge_92 : j_D jm_Mo_merge 92 (.istore 5) 2 94 := ⟨by decide +kernel, rfl⟩
theorem d_Mo_merge_94 : j_D jm_Mo_merge 94 (.iload 5) 2 96 := ⟨by decide +kernel, rfl⟩
theorem d_Mo_merge_96 : j_D jm_Mo_merge 96 (.aload_n 0) 1 97 := ⟨by decide +kernel, rfl⟩
theorem d_Mo_merge_97 : j_D jm_Mo_merge 97 (.getfield 13) 3 100 := ⟨by decide +kernel, rfl⟩
theorem d_Mo_merge_100 : j_D jm_Mo_merge 100 (.iconst 0) 1 101 := ⟨by decide +kernel, rfl⟩
theorem d_Mo_merge_101 : j_D jm_Mo_merge 101 .iaload 1 102 := ⟨by decide +kernel, rfl⟩
theorem d_Mo_merge_102 : j_E jm_Mo_merge 102 (.if_icmp .gt) 183 105 285 := ⟨by decide +kernel, rfl, by decide⟩
theorem d_Mo_merge_105 : j_D jm_Mo_merge 105 (.iload 5) 2 107 := ⟨by decide +kernel, rfl⟩
theorem d_Mo_merge_107 : j_D jm_Mo_merge 107 (.aload_n 0) 1 108 := ⟨by decide +kernel, rfl⟩
theorem d_Mo_merge_108 : j_D jm_Mo_merge 108 (.getfield 13) 3 111 := ⟨by decide +kernel, rfl⟩
theorem d_Mo_merge_111 : j_D jm_Mo_merge 111 (.iconst 0) 1 112 := ⟨by decide +kernel, rfl⟩
theorem d_Mo_merge_112 : j_D jm_Mo_merge 112 .iaload 1 113 := ⟨by decide +kernel, rfl⟩
theorem d_Mo_merge_113 : j_E jm_Mo_merge 113 (.if_icmp .ne) 7 116 120 := ⟨by decide +kernel, rfl, by decide⟩
theorem d_Mo_merge_116 : j_D jm_Mo_merge 116 (.iconst 1) 1 117 := ⟨by decide +kernel, rfl⟩
theorem d_Mo_merge_117 : j_E jm_Mo_merge 117 .goto 4 120 121 := ⟨by decide +kernel, rfl, by decide⟩
theorem d_Mo_merge_120 : j_D jm_Mo_merge 120 (.iconst 0) 1 121 := ⟨by decide +kernel, rfl⟩
theorem d_Mo_merge_121 : j_D jm_Mo_merge 121 (.istore 6) 2 123 := ⟨by decide +kernel, rfl⟩
theorem d_Mo_merge_123 : j_D jm_Mo_merge 123 (.iload 6) 2 125 := ⟨by decide +kernel, rfl⟩
theorem d_Mo_merge_125 : j_E jm_Mo_merge 125 (.ifCond .ne) 23 128 148 := ⟨by decide +kernel, rfl, by decide⟩
theorem d_Mo_merge_128 : j_D jm_Mo_merge 128 (.aload_n 0) 1 129 := ⟨by decide +kernel, rfl⟩
theorem d_Mo_merge_129 : j_D jm_Mo_merge 129 (.getfield 22) 3 132 := ⟨by decide +kernel, rfl⟩
theorem d_Mo_merge_132 : j_D jm_Mo_merge 132 (.iload 5) 2 134 := ⟨by decide +kernel, rfl⟩
theorem d_Mo_merge_134 : j_D jm_Mo_merge 134 .iaload 1 135 := ⟨by decide +kernel, rfl⟩
theorem d_Mo_merge_135 : j_E jm_Mo_merge 135 (.ifCond .lt) 144 138 279 := ⟨by decide +kernel, rfl, by decide⟩
theorem d_Mo_merge_138 : j_D jm_Mo_merge 138 (.aload_n 0) 1 139 := ⟨by decide +kernel, rfl⟩
theorem d_Mo_merge_139 : j_D jm_Mo_merge 139 (.getfield 85) 3 142 := ⟨by decide +kernel, rfl⟩
theorem d_Mo_merge_142 : j_D jm_Mo_merge 142 (.iload 5) 2 144 := ⟨by decide +kernel, rfl⟩
theorem d_Mo_merge_144 : j_D jm_Mo_merge 144 .iaload 1 145 := ⟨by decide +kernel, rfl⟩
theorem d_Mo_merge_145 : j_E jm_Mo_merge 145 (.ifCond .lt) 134 148 279 := ⟨by decide +kernel, rfl, by decide⟩
theorem d_Mo_merge_148 : j_D jm_Mo_merge 148 (.aload_n 0) 1 149 := ⟨by decide +kernel, rfl⟩
theorem d_Mo_merge_149 : j_D jm_Mo_merge 149 (.iload_n 2) 1 150 := ⟨by decide +kernel, rfl⟩
theorem d_Mo_merge_150 : j_D jm_Mo_merge 150 (.iload 5) 2 152 := ⟨by decide +kernel, rfl⟩
theorem d_Mo_merge_152 : j_D jm_Mo_merge 152 (.iload_n 3) 1 153 := ⟨by decide +kernel, rfl⟩
theorem d_Mo_merge_153 : j_D jm_Mo_merge 153 (.iload 6) 2 155 := ⟨by decide +kernel, rfl⟩
theorem d_Mo_merge_155 : j_E jm_Mo_merge 155 (.ifCond .eq) 12 158 167 := ⟨by decide +kernel, rfl, by decide⟩
theorem d_Mo_merge_158 : j_D jm_Mo_merge 158 (.aload_n 0) 1 159 := ⟨by decide +kernel, rfl⟩
theorem d_Mo_merge_159 : j_D jm_Mo_merge 159 (.getfield 13) 3 162 := ⟨by decide +kernel, rfl⟩
theorem d_Mo_merge_162 : j_D jm_Mo_merge 162 (.iconst 1) 1 163 := ⟨by decide +kernel, rfl⟩
theorem d_Mo_merge_163 : j_D jm_Mo_merge 163 .iaload 1 164 := ⟨by decide +kernel, rfl⟩
theorem d_Mo_merge_164 : j_E jm_Mo_merge 164 .goto 10 167 174 := ⟨by decide +kernel, rfl, by decide⟩
theorem d_Mo_merge_167 : j_D jm_Mo_merge 167 (.aload_n 0) 1 168 := ⟨by decide +kernel, rfl⟩
theorem d_Mo_merge_168 : j_D jm_Mo_merge 168 (.getfield 22) 3 171 := ⟨by decide +kernel, rfl⟩
theorem d_Mo_merge_171 : j_D jm_Mo_merge 171 (.iload 5) 2 173 := ⟨by decide +kernel, rfl⟩
theorem d_Mo_merge_173 : j_D jm_Mo_merge 173 .iaload 1 174 := ⟨by decide +kernel, rfl⟩
theorem d_Mo_merge_174 : j_D jm_Mo_merge 174 (.iload 4) 2 176 := ⟨by decide +kernel, rfl⟩
theorem d_Mo_merge_176 : j_D jm_Mo_merge 176 (.iload 6) 2 178 := ⟨by decide +kernel, rfl⟩
theorem d_Mo_merge_178 : j_E jm_Mo_merge 178 (.ifCond .eq) 12 181 190 := ⟨by decide +kernel, rfl, by decide⟩
theorem d_Mo_merge_181 : j_D jm_Mo_merge 181 (.aload_n 0) 1 182 := ⟨by decide +kernel, rfl⟩
theorem d_Mo_merge_182 : j_D jm_Mo_merge 182 (.getfield 13) 3 185 := ⟨by decide +kernel, rfl⟩
theorem d_Mo_merge_185 : j_D jm_Mo_merge 185 (.iconst 2) 1 186 := ⟨by decide +kernel, rfl⟩
theorem d_Mo_merge_186 : j_D jm_Mo_merge 186 .iaload 1 187 := ⟨by decide +kernel, rfl⟩
theorem d_Mo_merge_187 : j_E jm_Mo_merge 187 .goto 10 190 197 := ⟨by decide +kernel, rfl, by decide⟩
theorem d_Mo_merge_190 : j_D jm_Mo_merge 190 (.aload_n 0) 1 191 := ⟨by decide +kernel, rfl⟩
theorem d_Mo_merge_191 : j_D jm_Mo_merge 191 (.getfield 85) 3 194 := ⟨by decide +kernel, rfl⟩
theorem d_Mo_merge_194 : j_D jm_Mo_merge 194 (.iload 5) 2 196 := ⟨by decide +kernel, rfl⟩
theorem d_Mo_merge_196 : j_D jm_Mo_merge 196 .iaload 1 197 := ⟨by decide +kernel, rfl⟩
theorem d_Mo_merge_197 : j_D jm_Mo_merge 197 (.invokevirtual 224) 3 200 := ⟨by decide +kernel, rfl⟩
theorem d_Mo_merge_200 : j_D jm_Mo_merge 200 (.istore 7) 2 202 := ⟨by decide +kernel, rfl⟩
theorem d_Mo_merge_202 : j_D jm_Mo_merge 202 (.iload 7) 2 204 := ⟨by decide +kernel, rfl⟩
theorem d_Mo_merge_204 : j_E jm_Mo_merge 204 (.ifCond .lt) 22 207 226 := ⟨by decide +kernel, rfl, by decide⟩
theorem d_Mo_merge_207 : j_D jm_Mo_merge 207 (.iload 6) 2 209 := ⟨by decide +kernel, rfl⟩
theorem d_Mo_merge_209 : j_E jm_Mo_merge 209 (.ifCond .ne) 20 212 229 := ⟨by decide +kernel, rfl, by decide⟩
theorem d_Mo_merge_212 : j_D jm_Mo_merge 212 (.aload_n 0) 1 213 := ⟨by decide +kernel, rfl⟩
theorem d_Mo_merge_213 : j_D jm_Mo_merge 213 (.aload_n 0) 1 214 := ⟨by decide +kernel, rfl⟩
theorem d_Mo_merge_214 : j_D jm_Mo_merge 214 (.getfield 7) 3 217 := ⟨by decide +kernel, rfl⟩
theorem d_Mo_merge_217 : j_D jm_Mo_merge 217 (.iload 5) 2 219 := ⟨by decide +kernel, rfl⟩
theorem d_Mo_merge_219 : j_D jm_Mo_merge 219 .iaload 1 220 := ⟨by decide +kernel, rfl⟩
theorem d_Mo_merge_220 : j_D jm_Mo_merge 220 (.invokevirtual 214) 3 223 := ⟨by decide +kernel, rfl⟩
theorem d_Mo_merge_223 : j_E jm_Mo_merge 223 (.ifCond .ne) 6 226 229 := ⟨by decide +kernel, rfl, by decide⟩
theorem d_Mo_merge_226 : j_D jm_Mo_merge 226 (.bipush (-2)) 2 228 := ⟨by decide +kernel, rfl⟩
theorem d_Mo_merge_228 : j_D jm_Mo_merge 228 .ireturn 1 229 := ⟨by decide +kernel, rfl⟩
theorem d_Mo_merge_229 : j_D jm_Mo_merge 229 (.iload_n 1) 1 230 := ⟨by decide +kernel, rfl⟩
theorem d_Mo_merge_230 : j_D jm_Mo_merge 230 (.iload 7) 2 232 := ⟨by decide +kernel, rfl⟩
theorem d_Mo_merge_232 : j_D jm_Mo_merge 232 .iadd 1 233 := ⟨by decide +kernel, rfl⟩
theorem d_Mo_merge_233 : j_D jm_Mo_merge 233 (.istore_n 1) 1 234 := ⟨by decide +kernel, rfl⟩
theorem d_Mo_merge_234 : j_D jm_Mo_merge 234 (.iload 5) 2 236 := ⟨by decide +kernel, rfl⟩
theorem d_Mo_merge_236 : j_D jm_Mo_merge 236 (.iconst 1) 1 237 := ⟨by decide +kernel, rfl⟩
theorem d_Mo_merge_237 : j_D jm_Mo_merge 237 .iadd 1 238 := ⟨by decide +kernel, rfl⟩
theorem d_Mo_merge_238 : j_D jm_Mo_merge 238 (.istore_n 2) 1 239 := ⟨by decide +kernel, rfl⟩
theorem d_Mo_merge_239 : j_D jm_Mo_merge 239 (.iload 6) 2 241 := ⟨by decide +kernel, rfl⟩
theorem d_Mo_merge_241 : j_E jm_Mo_merge 241 (.ifCond .eq) 7 244 248 := ⟨by decide +kernel, rfl, by decide⟩
theorem d_Mo_merge_244 : j_D jm_Mo_merge 244 (.iload_n 3) 1 245 := ⟨by decide +kernel, rfl⟩
theorem d_Mo_merge_245 : j_E jm_Mo_merge 245 .goto 12 248 257 := ⟨by decide +kernel, rfl, by decide⟩
theorem d_Mo_merge_248 : j_D jm_Mo_merge 248 (.aload_n 0) 1 249 := ⟨by decide +kernel, rfl⟩
theorem d_Mo_merge_249 : j_D jm_Mo_merge 249 (.getfield 22) 3 252 := ⟨by decide +kernel, rfl⟩
theorem d_Mo_merge_252 : j_D jm_Mo_merge 252 (.iload 5) 2 254 := ⟨by decide +kernel, rfl⟩
theorem d_Mo_merge_254 : j_D jm_Mo_merge 254 .iaload 1 255 := ⟨by decide +kernel, rfl⟩
theorem d_Mo_merge_255 : j_D jm_Mo_merge 255 (.iconst 1) 1 256 := ⟨by decide +kernel, rfl⟩
theorem d_Mo_merge_256 : j_D jm_Mo_merge 256 .iadd 1 257 := ⟨by decide +kernel, rfl⟩
theorem d_Mo_merge_257 : j_D jm_Mo_merge 257 (.istore_n 3) 1 258 := ⟨by decide +kernel, rfl⟩
theorem d_Mo_merge_258 : j_D jm_Mo_merge 258 (.iload 6) 2 260 := ⟨by decide +kernel, rfl⟩
theorem d_Mo_merge_260 : j_E jm_Mo_merge 260 (.ifCond .eq) 8 263 268 := ⟨by decide +kernel, rfl, by decide⟩
theorem d_Mo_merge_263 : j_D jm_Mo_merge 263 (.iload 4) 2 265 := ⟨by decide +kernel, rfl⟩
theorem d_Mo_merge_265 : j_E jm_Mo_merge 265 .goto 12 268 277 := ⟨by decide +kernel, rfl, by decide⟩
theorem d_Mo_merge_268 : j_D jm_Mo_merge 268 (.aload_n 0) 1 269 := ⟨by decide +kernel, rfl⟩
theorem d_Mo_merge_269 : j_D jm_Mo_merge 269 (.getfield 85) 3 272 := ⟨by decide +kernel, rfl⟩
theorem d_Mo_merge_272 : j_D jm_Mo_merge 272 (.iload 5) 2 274 := ⟨by decide +kernel, rfl⟩
theorem d_Mo_merge_274 : j_D jm_Mo_merge 274 .iaload 1 275 := ⟨by decide +kernel, rfl⟩
theorem d_Mo_merge_275 : j_D jm_Mo_merge 275 (.iconst 1) 1 276 := ⟨by decide +kernel, rfl⟩
theorem d_Mo_merge_276 : j_D jm_Mo_merge 276 .iadd 1 277 := ⟨by decide +kernel, rfl⟩
theorem d_Mo_merge_277 : j_D jm_Mo_merge 277 (.istore 4) 2 279 := ⟨by decide +kernel, rfl⟩
theorem d_Mo_merge_279 : j_D jm_Mo_merge 279 (.iinc 5 1) 3 282 := ⟨by decide +kernel, rfl⟩
theorem d_Mo_merge_282 : j_E jm_Mo_merge 282 .goto (-188) 285 94 := ⟨by decide +kernel, rfl, by decide⟩
theorem d_Mo_merge_285 : j_D jm_Mo_merge 285 (.aload_n 0) 1 286 := ⟨by decide +kernel, rfl⟩
theorem d_Mo_merge_286 : j_D jm_Mo_merge 286 (.iconst 3) 1 287 := ⟨by decide +kernel, rfl⟩
theorem d_Mo_merge_287 : j_D jm_Mo_merge 287 (.invokevirtual 211) 3 290 := ⟨by decide +kernel, rfl⟩
theorem d_Mo_merge_290 : j_D jm_Mo_merge 290 (.iload_n 1) 1 291 := ⟨by decide +kernel, rfl⟩
theorem d_Mo_merge_291 : j_D jm_Mo_merge 291 .ireturn 1 292 := ⟨by decide +kernel, rfl⟩
theorem lc_Mo_stands : j_Lc jm_Mo_stands 3 := ⟨by decide +kernel, by decide +kernel, by decide, by decide +kernel, by decide⟩
theorem c_Mo_196 : j_Lv "LinePatcherModel" 196 8 jm_Mo_stands 3 := ⟨by decide +kernel, by decide +kernel, ⟨_, rfl, by decide +kernel⟩, lc_Mo_stands⟩
theorem f_Mo_82 : j_F "LinePatcherModel" 82 8 36 36 true := ⟨rfl, _, "LinePatcherModel", rfl, by decide, rfl, Or.inl (by decide +kernel), Or.inl rfl⟩
theorem f_Mo_199 : j_F "LinePatcherModel" 199 8 35 35 false := ⟨rfl, _, "LinePatcherModel", rfl, by decide, rfl, Or.inl (by decide +kernel), Or.inl rfl⟩
theorem lc_Mo_read : j_Lc jm_Mo_read 0 := ⟨by decide +kernel, by decide +kernel, by decide, by decide +kernel, by decide⟩
theorem c_Mo_202 : j_Lv "LinePatcherModel" 202 8 jm_Mo_read 0 := ⟨by decide +kernel, by decide +kernel, ⟨_, rfl, by decide +kernel⟩, lc_Mo_read⟩
theorem f_Mo_79 : j_F "LinePatcherModel" 79 8 32 32 true := ⟨rfl, _, "LinePatcherModel", rfl, by decide, rfl, Or.inl (by decide +kernel), Or.inl rfl⟩
theorem lc_Mo_fit : j_Lc jm_Mo_fit 3 := ⟨by decide +kernel, by decide +kernel, by decide, by decide +kernel, by decide⟩
theorem c_Mo_205 : j_Lv "LinePatcherModel" 205 8 jm_Mo_fit 3 := ⟨by decide +kernel, by decide +kernel, ⟨_, rfl, by decide +kernel⟩, lc_Mo_fit⟩
theorem lc_Mo_emit : j_Lc jm_Mo_emit 1 := ⟨by decide +kernel, by decide +kernel, by decide, by decide +kernel, by decide⟩
theorem c_Mo_208 : j_Lv "LinePatcherModel" 208 8 jm_Mo_emit 1 := ⟨by decide +kernel, by decide +kernel, ⟨_, rfl, by decide +kernel⟩, lc_Mo_emit⟩
theorem lc_Mo_keep : j_Lc jm_Mo_keep 1 := ⟨by decide +kernel, by decide +kernel, by decide, by decide +kernel, by decide⟩
theorem c_Mo_211 : j_Lv "LinePatcherModel" 211 8 jm_Mo_keep 1 := ⟨by decide +kernel, by decide +kernel, ⟨_, rfl, by decide +kernel⟩, lc_Mo_keep⟩
theorem lc_Mo_tryEmit : j_Lc jm_Mo_tryEmit 1 := ⟨by decide +kernel, by decide +kernel, by decide, by decide +kernel, by decide⟩
theorem c_Mo_214 : j_Lv "LinePatcherModel" 214 8 jm_Mo_tryEmit 1 := ⟨by decide +kernel, by decide +kernel, ⟨_, rfl, by decide +kernel⟩, lc_Mo_tryEmit⟩
theorem lc_Mo_sameParts : j_Lc jm_Mo_sameParts 6 := ⟨by decide +kernel, by decide +kernel, by decide, by decide +kernel, by decide⟩
theorem c_Mo_217 : j_Lv "LinePatcherModel" 217 8 jm_Mo_sameParts 6 := ⟨by decide +kernel, by decide +kernel, ⟨_, rfl, by decide +kernel⟩, lc_Mo_sameParts⟩
theorem lc_Mo_emitPart : j_Lc jm_Mo_emitPart 3 := ⟨by decide +kernel, by decide +kernel, by decide, by decide +kernel, by decide⟩
theorem c_Mo_221 : j_Lv "LinePatcherModel" 221 8 jm_Mo_emitPart 3 := ⟨by decide +kernel, by decide +kernel, ⟨_, rfl, by decide +kernel⟩, lc_Mo_emitPart⟩
theorem f_Mo_85 : j_F "LinePatcherModel" 85 8 37 37 true := ⟨rfl, _, "LinePatcherModel", rfl, by decide, rfl, Or.inl (by decide +kernel), Or.inl rfl⟩
theorem lc_Mo_mergeParts : j_Lc jm_Mo_mergeParts 6 := ⟨by decide +kernel, by decide +kernel, by decide, by decide +kernel, by decide⟩
theorem c_Mo_224 : j_Lv "LinePatcherModel" 224 8 jm_Mo_mergeParts 6 := ⟨by decide +kernel, by decide +kernel, ⟨_, rfl, by decide +kernel⟩, lc_Mo_mergeParts⟩
theorem s_Mo_stands_0 {G : j_G} {d B S N : Nat} {K : Nat → Option (Nat × Nat)} {M : Nat → Int → Int} {g : Nat → Int → Option Nat} {Q : j_O → j_S → Prop} {a0 : Nat} {x1 x2 x3 : Int} {u4 u5 u6 u7 : j_V}  (k1 : j_J G jm_Mo_stands d B S 9 [jr_ a0, ji_ x1, ji_ x2, ji_ x3, ji_ x3, ji_ 1, ji_ 0, u7] [] (N, K, M, g) Q) : j_J G jm_Mo_stands d B S 0 [jr_ a0, ji_ x1, ji_ x2, ji_ x3, u4, u5, u6, u7] [] (N, K, M, g) Q :=
  j_iload_n d_Mo_stands_0 rfl <| j_istore d_Mo_stands_1 rfl rfl <| j_iconst d_Mo_stands_3 <| j_istore d_Mo_stands_4 rfl rfl <| j_iconst d_Mo_stands_6 <| j_istore d_Mo_stands_7 rfl rfl <| k1
theorem s_Mo_stands_9 {G : j_G} {d B S N : Nat} {K : Nat → Option (Nat × Nat)} {M : Nat → Int → Int} {g : Nat → Int → Option Nat} {Q : j_O → j_S → Prop} {a0 y1 n2 : Nat} {x1 x2 x3 x4 x5 x6 : Int} {u7 : j_V} (hk1 : K a0 = some (0, 8)) (hg2 : g a0 30 = some y1) (hk2 : K y1 = some (1, n2)) (r3 : 0 ≤ x1 := by omega) (r3' : x1 < (n2 : Int) := by omega) (r4 : -2147483648 ≤ x6 ∧ x6 ≤ 2147483647 := by omega) (r5 : -2147483648 ≤ (M y1 x1) ∧ (M y1 x1) ≤ 2147483647 := by omega) (k1 : (M y1 x1) ≤ x6 → j_J G jm_Mo_stands d B S 90 [jr_ a0, ji_ x1, ji_ x2, ji_ x3, ji_ x4, ji_ x5, ji_ x6, u7] [] (N, K, M, g) Q) (k2 : x6 < (M y1 x1) → j_J G jm_Mo_stands d B S 20 [jr_ a0, ji_ x1, ji_ x2, ji_ x3, ji_ x4, ji_ x5, ji_ x6, u7] [] (N, K, M, g) Q) : j_J G jm_Mo_stands d B S 9 [jr_ a0, ji_ x1, ji_ x2, ji_ x3, ji_ x4, ji_ x5, ji_ x6, u7] [] (N, K, M, g) Q :=
  j_iload d_Mo_stands_9 rfl <| j_aload_n d_Mo_stands_11 rfl <| j_getR d_Mo_stands_12 f_Mo_73 hk1 hg2 <| j_iload_n d_Mo_stands_15 rfl <| j_iald d_Mo_stands_16 hk2 r3 r3' <| j_icmp_ge d_Mo_stands_17 r4 r5 k1 k2
theorem s_Mo_stands_20 {G : j_G} {d B S N : Nat} {K : Nat → Option (Nat × Nat)} {M : Nat → Int → Int} {g : Nat → Int → Option Nat} {Q : j_O → j_S → Prop} {a0 y1 n2 y4 n3 : Nat} {x1 x2 x3 x4 x5 x6 : Int} {u7 : j_V} (hk1 : K a0 = some (0, 8)) (hg2 : g a0 31 = some y1) (hk2 : K y1 = some (1, n2)) (r3 : 0 ≤ x1 := by omega) (r3' : x1 < (n2 : Int) := by omega) (hg5 : g a0 25 = some y4) (hk3 : K y4 = some (1, n3)) (r6 : 0 ≤ ((M y1 x1) + (3 * x6)) := by omega) (r6' : ((M y1 x1) + (3 * x6)) < (n3 : Int) := by omega) (r7 : -2147483648 ≤ (M y4 ((M y1 x1) + (3 * x6))) ∧ (M y4 ((M y1 x1) + (3 * x6))) ≤ 2147483647 := by omega) (k1 : (M y4 ((M y1 x1) + (3 * x6))) = 43 → j_J G jm_Mo_stands d B S 9 [jr_ a0, ji_ x1, ji_ x2, ji_ x3, ji_ x4, ji_ x5, ji_ (x6 + 1), ji_ ((M y1 x1) + (3 * x6))] [] (N, K, M, g) Q) (k2 : (M y4 ((M y1 x1) + (3 * x6))) ≠ 43 → j_J G jm_Mo_stands d B S 45 [jr_ a0, ji_ x1, ji_ x2, ji_ x3, ji_ x4, ji_ x5, ji_ x6, ji_ ((M y1 x1) + (3 * x6))] [] (N, K, M, g) Q) : j_J G jm_Mo_stands d B S 20 [jr_ a0, ji_ x1, ji_ x2, ji_ x3, ji_ x4, ji_ x5, ji_ x6, u7] [] (N, K, M, g) Q :=
  j_aload_n d_Mo_stands_20 rfl <| j_getR d_Mo_stands_21 f_Mo_76 hk1 hg2 <| j_iload_n d_Mo_stands_24 rfl <| j_iald d_Mo_stands_25 hk2 r3 r3' <| j_iconst d_Mo_stands_26 <| j_iload d_Mo_stands_27 rfl <| j_imul d_Mo_stands_29 <| j_iadd d_Mo_stands_30 <| j_istore d_Mo_stands_31 rfl rfl <| j_aload_n d_Mo_stands_33 rfl <| j_getR d_Mo_stands_34 f_Mo_61 hk1 hg5 <| j_iload d_Mo_stands_37 rfl <| j_iald d_Mo_stands_39 hk3 r6 r6' <| j_bipush d_Mo_stands_40 (by decide) <| j_icmp_eq d_Mo_stands_42 r7 (by decide) (fun h => j_iinc d_Mo_stands_84 rfl rfl rfl <| j_goto d_Mo_stands_87 <| k1 h) k2
theorem s_Mo_stands_45 {G : j_G} {d B S N : Nat} {K : Nat → Option (Nat × Nat)} {M : Nat → Int → Int} {g : Nat → Int → Option Nat} {Q : j_O → j_S → Prop} {a0 : Nat} {x1 x2 x3 x4 x5 x6 x7 : Int} (r1 : -2147483648 ≤ x5 ∧ x5 ≤ 2147483647 := by omega) (k1 : x5 = 0 → j_J G jm_Mo_stands d B S 9 [jr_ a0, ji_ x1, ji_ x2, ji_ x3, ji_ (x4 + 1), ji_ 0, ji_ (x6 + 1), ji_ x7] [] (N, K, M, g) Q) (k2 : x5 ≠ 0 → j_J G jm_Mo_stands d B S 50 [jr_ a0, ji_ x1, ji_ x2, ji_ x3, ji_ x4, ji_ x5, ji_ x6, ji_ x7] [] (N, K, M, g) Q) : j_J G jm_Mo_stands d B S 45 [jr_ a0, ji_ x1, ji_ x2, ji_ x3, ji_ x4, ji_ x5, ji_ x6, ji_ x7] [] (N, K, M, g) Q :=
  j_iload d_Mo_stands_45 rfl <| j_if_eq d_Mo_stands_47 r1 (fun h => j_iconst d_Mo_stands_78 <| j_istore d_Mo_stands_79 rfl rfl <| j_iinc d_Mo_stands_81 rfl rfl rfl <| j_iinc d_Mo_stands_84 rfl rfl rfl <| j_goto d_Mo_stands_87 <| k1 h) k2
theorem s_Mo_stands_50 {G : j_G} {d B S N : Nat} {K : Nat → Option (Nat × Nat)} {M : Nat → Int → Int} {g : Nat → Int → Option Nat} {Q : j_O → j_S → Prop} {a0 y1 n2 y4 n3 : Nat} {x1 x2 x3 x4 x5 x6 x7 : Int} (hk1 : K a0 = some (0, 8)) (hg2 : g a0 0 = some y1) (hk2 : K y1 = some (1, n2)) (r3 : 0 ≤ ((24 * x2) + x4) := by omega) (r3' : ((24 * x2) + x4) < (n2 : Int) := by omega) (hg5 : g a0 25 = some y4) (hk3 : K y4 = some (1, n3)) (r6 : 0 ≤ (x7 + 1) := by omega) (r6' : (x7 + 1) < (n3 : Int) := by omega) (r7 : -2147483648 ≤ (M y1 ((24 * x2) + x4)) ∧ (M y1 ((24 * x2) + x4)) ≤ 2147483647 := by omega) (r8 : -2147483648 ≤ (M y4 (x7 + 1)) ∧ (M y4 (x7 + 1)) ≤ 2147483647 := by omega) (k1 : (M y1 ((24 * x2) + x4)) ≠ (M y4 (x7 + 1)) → j_J G jm_Mo_stands d B S 9 [jr_ a0, ji_ x1, ji_ x2, ji_ x3, ji_ (x4 + 1), ji_ 0, ji_ (x6 + 1), ji_ x7] [] (N, K, M, g) Q) (k2 : (M y1 ((24 * x2) + x4)) = (M y4 (x7 + 1)) → j_J G jm_Mo_stands d B S 9 [jr_ a0, ji_ x1, ji_ x2, ji_ x3, ji_ (x4 + 1), ji_ 1, ji_ (x6 + 1), ji_ x7] [] (N, K, M, g) Q) : j_J G jm_Mo_stands d B S 50 [jr_ a0, ji_ x1, ji_ x2, ji_ x3, ji_ x4, ji_ x5, ji_ x6, ji_ x7] [] (N, K, M, g) Q :=
  j_aload_n d_Mo_stands_50 rfl <| j_getR d_Mo_stands_51 f_Mo_7 hk1 hg2 <| j_bipush d_Mo_stands_54 (by decide) <| j_iload_n d_Mo_stands_56 rfl <| j_imul d_Mo_stands_57 <| j_iload d_Mo_stands_58 rfl <| j_iadd d_Mo_stands_60 <| j_iald d_Mo_stands_61 hk2 r3 r3' <| j_aload_n d_Mo_stands_62 rfl <| j_getR d_Mo_stands_63 f_Mo_61 hk1 hg5 <| j_iload d_Mo_stands_66 rfl <| j_iconst d_Mo_stands_68 <| j_iadd d_Mo_stands_69 <| j_iald d_Mo_stands_70 hk3 r6 r6' <| j_icmp_ne d_Mo_stands_71 r7 r8 (fun h => j_iconst d_Mo_stands_78 <| j_istore d_Mo_stands_79 rfl rfl <| j_iinc d_Mo_stands_81 rfl rfl rfl <| j_iinc d_Mo_stands_84 rfl rfl rfl <| j_goto d_Mo_stands_87 <| k1 h) (fun h => j_iconst d_Mo_stands_74 <| j_goto d_Mo_stands_75 <| j_istore d_Mo_stands_79 rfl rfl <| j_iinc d_Mo_stands_81 rfl rfl rfl <| j_iinc d_Mo_stands_84 rfl rfl rfl <| j_goto d_Mo_stands_87 <| k2 h)
theorem s_Mo_stands_74 {G : j_G} {d B S N : Nat} {K : Nat → Option (Nat × Nat)} {M : Nat → Int → Int} {g : Nat → Int → Option Nat} {Q : j_O → j_S → Prop} {a0 : Nat} {x1 x2 x3 x4 x5 x6 x7 : Int}  (k1 : j_J G jm_Mo_stands d B S 9 [jr_ a0, ji_ x1, ji_ x2, ji_ x3, ji_ (x4 + 1), ji_ 1, ji_ (x6 + 1), ji_ x7] [] (N, K, M, g) Q) : j_J G jm_Mo_stands d B S 74 [jr_ a0, ji_ x1, ji_ x2, ji_ x3, ji_ x4, ji_ x5, ji_ x6, ji_ x7] [] (N, K, M, g) Q :=
  j_iconst d_Mo_stands_74 <| j_goto d_Mo_stands_75 (j_istore d_Mo_stands_79 rfl rfl <| j_iinc d_Mo_stands_81 rfl rfl rfl <| j_iinc d_Mo_stands_84 rfl rfl rfl <| j_goto d_Mo_stands_87 <| k1)
theorem s_Mo_stands_78 {G : j_G} {d B S N : Nat} {K : Nat → Option (Nat × Nat)} {M : Nat → Int → Int} {g : Nat → Int → Option Nat} {Q : j_O → j_S → Prop} {a0 : Nat} {x1 x2 x3 x4 x5 x6 x7 : Int}  (k1 : j_J G jm_Mo_stands d B S 9 [jr_ a0, ji_ x1, ji_ x2, ji_ x3, ji_ (x4 + 1), ji_ 0, ji_ (x6 + 1), ji_ x7] [] (N, K, M, g) Q) : j_J G jm_Mo_stands d B S 78 [jr_ a0, ji_ x1, ji_ x2, ji_ x3, ji_ x4, ji_ x5, ji_ x6, ji_ x7] [] (N, K, M, g) Q :=
  j_iconst d_Mo_stands_78 <| (j_istore d_Mo_stands_79 rfl rfl <| j_iinc d_Mo_stands_81 rfl rfl rfl <| j_iinc d_Mo_stands_84 rfl rfl rfl <| j_goto d_Mo_stands_87 <| k1)
theorem s_Mo_stands_79 {G : j_G} {d B S N : Nat} {K : Nat → Option (Nat × Nat)} {M : Nat → Int → Int} {g : Nat → Int → Option Nat} {Q : j_O → j_S → Prop} {a0 : Nat} {x1 x2 x3 x4 x5 x6 x7 t0 : Int}  (k1 : j_J G jm_Mo_stands d B S 9 [jr_ a0, ji_ x1, ji_ x2, ji_ x3, ji_ (x4 + 1), ji_ t0, ji_ (x6 + 1), ji_ x7] [] (N, K, M, g) Q) : j_J G jm_Mo_stands d B S 79 [jr_ a0, ji_ x1, ji_ x2, ji_ x3, ji_ x4, ji_ x5, ji_ x6, ji_ x7] [ji_ t0] (N, K, M, g) Q :=
  j_istore d_Mo_stands_79 rfl rfl <| j_iinc d_Mo_stands_81 rfl rfl rfl <| (j_iinc d_Mo_stands_84 rfl rfl rfl <| j_goto d_Mo_stands_87 <| k1)
theorem s_Mo_stands_84 {G : j_G} {d B S N : Nat} {K : Nat → Option (Nat × Nat)} {M : Nat → Int → Int} {g : Nat → Int → Option Nat} {Q : j_O → j_S → Prop} {a0 : Nat} {x1 x2 x3 x4 x5 x6 x7 : Int}  (k1 : j_J G jm_Mo_stands d B S 9 [jr_ a0, ji_ x1, ji_ x2, ji_ x3, ji_ x4, ji_ x5, ji_ (x6 + 1), ji_ x7] [] (N, K, M, g) Q) : j_J G jm_Mo_stands d B S 84 [jr_ a0, ji_ x1, ji_ x2, ji_ x3, ji_ x4, ji_ x5, ji_ x6, ji_ x7] [] (N, K, M, g) Q :=
  j_iinc d_Mo_stands_84 rfl rfl rfl <| j_goto d_Mo_stands_87 k1
theorem s_Mo_stands_90 {G : j_G} {d B S N : Nat} {K : Nat → Option (Nat × Nat)} {M : Nat → Int → Int} {g : Nat → Int → Option Nat} {Q : j_O → j_S → Prop} {a0 : Nat} {x1 x2 x3 x4 x5 x6 : Int} {u7 : j_V} (hz1 : x5 = 0 ∨ x5 = 1) (k1 : Q (.inl (some (ji_ x5))) (N, K, M, g)) : j_J G jm_Mo_stands d B S 90 [jr_ a0, ji_ x1, ji_ x2, ji_ x3, ji_ x4, ji_ x5, ji_ x6, u7] [] (N, K, M, g) Q :=
  j_iload d_Mo_stands_90 rfl <| j_zreturn' d_Mo_stands_92 rfl hz1 k1
theorem s_Mo_fit_0 {G : j_G} {d B S N : Nat} {K : Nat → Option (Nat × Nat)} {M : Nat → Int → Int} {g : Nat → Int → Option Nat} {Q : j_O → j_S → Prop} {a0 : Nat} {x1 x2 x3 : Int} {u4 u5 u6 u7 : j_V}  (k1 : j_J G jm_Mo_fit d B S 11 [jr_ a0, ji_ x1, ji_ x2, ji_ x3, ji_ (-1), ji_ 1000, ji_ x3, u7] [] (N, K, M, g) Q) : j_J G jm_Mo_fit d B S 0 [jr_ a0, ji_ x1, ji_ x2, ji_ x3, u4, u5, u6, u7] [] (N, K, M, g) Q :=
  j_iconst d_Mo_fit_0 <| j_istore d_Mo_fit_1 rfl rfl <| j_sipush d_Mo_fit_3 (by decide) <| j_istore d_Mo_fit_6 rfl rfl <| j_iload_n d_Mo_fit_8 rfl <| j_istore d_Mo_fit_9 rfl rfl <| k1
theorem s_Mo_fit_11 {G : j_G} {d B S N : Nat} {K : Nat → Option (Nat × Nat)} {M : Nat → Int → Int} {g : Nat → Int → Option Nat} {Q : j_O → j_S → Prop} {a0 y1 n2 y4 n3 : Nat} {x1 x2 x3 x4 x5 x6 : Int} {u7 : j_V} (hk1 : K a0 = some (0, 8)) (hg2 : g a0 28 = some y1) (hk2 : K y1 = some (1, n2)) (r3 : 0 ≤ x1 := by omega) (r3' : x1 < (n2 : Int) := by omega) (hg5 : g a0 1 = some y4) (hk3 : K y4 = some (1, n3)) (r6 : 0 ≤ x2 := by omega) (r6' : x2 < (n3 : Int) := by omega) (r7 : -2147483648 ≤ (x6 + (M y1 x1)) ∧ (x6 + (M y1 x1)) ≤ 2147483647 := by omega) (r8 : -2147483648 ≤ (M y4 x2) ∧ (M y4 x2) ≤ 2147483647 := by omega) (k1 : (M y4 x2) < (x6 + (M y1 x1)) → Q (.inl (some (ji_ x4))) (N, K, M, g)) (k2 : (x6 + (M y1 x1)) ≤ (M y4 x2) → j_J G jm_Mo_fit d B S 29 [jr_ a0, ji_ x1, ji_ x2, ji_ x3, ji_ x4, ji_ x5, ji_ x6, u7] [] (N, K, M, g) Q) : j_J G jm_Mo_fit d B S 11 [jr_ a0, ji_ x1, ji_ x2, ji_ x3, ji_ x4, ji_ x5, ji_ x6, u7] [] (N, K, M, g) Q :=
  j_iload d_Mo_fit_11 rfl <| j_aload_n d_Mo_fit_13 rfl <| j_getR d_Mo_fit_14 f_Mo_67 hk1 hg2 <| j_iload_n d_Mo_fit_17 rfl <| j_iald d_Mo_fit_18 hk2 r3 r3' <| j_iadd d_Mo_fit_19 <| j_aload_n d_Mo_fit_20 rfl <| j_getR d_Mo_fit_21 f_Mo_13 hk1 hg5 <| j_iload_n d_Mo_fit_24 rfl <| j_iald d_Mo_fit_25 hk3 r6 r6' <| j_icmp_gt d_Mo_fit_26 r7 r8 (fun h => j_iload d_Mo_fit_95 rfl <| j_ireturn d_Mo_fit_97 rfl <| k1 h) k2
theorem s_Mo_fit_29 {G : j_G} {d B S N : Nat} {K : Nat → Option (Nat × Nat)} {M : Nat → Int → Int} {g : Nat → Int → Option Nat} {Q : j_O → j_S → Prop} {a0 y1 n2 : Nat} {x1 x2 x3 x4 x5 x6 : Int} {u7 : j_V} (hk1 : K a0 = some (0, 8)) (hg2 : g a0 27 = some y1) (hk2 : K y1 = some (1, n2)) (r3 : 0 ≤ x1 := by omega) (r3' : x1 < (n2 : Int) := by omega) (r4 : -2147483648 ≤ x6 ∧ x6 ≤ 2147483647 := by omega) (r5 : -2147483648 ≤ (M y1 x1) ∧ (M y1 x1) ≤ 2147483647 := by omega) (k1 : (M y1 x1) ≤ x6 → j_J G jm_Mo_fit d B S 52 [jr_ a0, ji_ x1, ji_ x2, ji_ x3, ji_ x4, ji_ x5, ji_ x6, u7] [] (N, K, M, g) Q) (k2 : x6 < (M y1 x1) → j_J G jm_Mo_fit d B S 40 [jr_ a0, ji_ x1, ji_ x2, ji_ x3, ji_ x4, ji_ x5, ji_ x6, u7] [] (N, K, M, g) Q) : j_J G jm_Mo_fit d B S 29 [jr_ a0, ji_ x1, ji_ x2, ji_ x3, ji_ x4, ji_ x5, ji_ x6, u7] [] (N, K, M, g) Q :=
  j_iload d_Mo_fit_29 rfl <| j_aload_n d_Mo_fit_31 rfl <| j_getR d_Mo_fit_32 f_Mo_64 hk1 hg2 <| j_iload_n d_Mo_fit_35 rfl <| j_iald d_Mo_fit_36 hk2 r3 r3' <| j_icmp_ge d_Mo_fit_37 r4 r5 k1 k2
theorem s_Mo_fit_40 {G : j_G} {d B S N : Nat} {K : Nat → Option (Nat × Nat)} {M : Nat → Int → Int} {g : Nat → Int → Option Nat} {Q : j_O → j_S → Prop} {a0 y1 n2 : Nat} {x1 x2 x3 x4 x5 x6 : Int} {u7 : j_V} (hk1 : K a0 = some (0, 8)) (hg2 : g a0 27 = some y1) (hk2 : K y1 = some (1, n2)) (r3 : 0 ≤ x1 := by omega) (r3' : x1 < (n2 : Int) := by omega) (k1 : j_J G jm_Mo_fit d B S 61 [jr_ a0, ji_ x1, ji_ x2, ji_ x3, ji_ x4, ji_ x5, ji_ x6, u7] [ji_ ((M y1 x1) - x6)] (N, K, M, g) Q) : j_J G jm_Mo_fit d B S 40 [jr_ a0, ji_ x1, ji_ x2, ji_ x3, ji_ x4, ji_ x5, ji_ x6, u7] [] (N, K, M, g) Q :=
  j_aload_n d_Mo_fit_40 rfl <| j_getR d_Mo_fit_41 f_Mo_64 hk1 hg2 <| j_iload_n d_Mo_fit_44 rfl <| j_iald d_Mo_fit_45 hk2 r3 r3' <| j_iload d_Mo_fit_46 rfl <| j_isub d_Mo_fit_48 <| j_goto d_Mo_fit_49 k1
theorem s_Mo_fit_52 {G : j_G} {d B S N : Nat} {K : Nat → Option (Nat × Nat)} {M : Nat → Int → Int} {g : Nat → Int → Option Nat} {Q : j_O → j_S → Prop} {a0 y1 n2 : Nat} {x1 x2 x3 x4 x5 x6 : Int} {u7 : j_V} (hk1 : K a0 = some (0, 8)) (hg2 : g a0 27 = some y1) (hk2 : K y1 = some (1, n2)) (r3 : 0 ≤ x1 := by omega) (r3' : x1 < (n2 : Int) := by omega) (k1 : j_J G jm_Mo_fit d B S 61 [jr_ a0, ji_ x1, ji_ x2, ji_ x3, ji_ x4, ji_ x5, ji_ x6, u7] [ji_ (x6 - (M y1 x1))] (N, K, M, g) Q) : j_J G jm_Mo_fit d B S 52 [jr_ a0, ji_ x1, ji_ x2, ji_ x3, ji_ x4, ji_ x5, ji_ x6, u7] [] (N, K, M, g) Q :=
  j_iload d_Mo_fit_52 rfl <| j_aload_n d_Mo_fit_54 rfl <| j_getR d_Mo_fit_55 f_Mo_64 hk1 hg2 <| j_iload_n d_Mo_fit_58 rfl <| j_iald d_Mo_fit_59 hk2 r3 r3' <| j_isub d_Mo_fit_60 <| k1
theorem s_Mo_fit_61 {G : j_G} {d B S N : Nat} {K : Nat → Option (Nat × Nat)} {M : Nat → Int → Int} {g : Nat → Int → Option Nat} {Q : j_O → j_S → Prop} {a0 : Nat} {x1 x2 x3 x4 x5 x6 t0 : Int} {u7 : j_V} (r1 : -2147483648 ≤ t0 ∧ t0 ≤ 2147483647 := by omega) (r2 : -2147483648 ≤ x5 ∧ x5 ≤ 2147483647 := by omega) (k1 : x5 ≤ t0 → j_J G jm_Mo_fit d B S 11 [jr_ a0, ji_ x1, ji_ x2, ji_ x3, ji_ x4, ji_ x5, ji_ (x6 + 1), ji_ t0] [] (N, K, M, g) Q) (k2 : t0 < x5 → j_J G jm_Mo_fit d B S 70 [jr_ a0, ji_ x1, ji_ x2, ji_ x3, ji_ x4, ji_ x5, ji_ x6, ji_ t0] [] (N, K, M, g) Q) : j_J G jm_Mo_fit d B S 61 [jr_ a0, ji_ x1, ji_ x2, ji_ x3, ji_ x4, ji_ x5, ji_ x6, u7] [ji_ t0] (N, K, M, g) Q :=
  j_istore d_Mo_fit_61 rfl rfl <| j_iload d_Mo_fit_63 rfl <| j_iload d_Mo_fit_65 rfl <| j_icmp_ge d_Mo_fit_67 r1 r2 (fun h => j_iinc d_Mo_fit_89 rfl rfl rfl <| j_goto d_Mo_fit_92 <| k1 h) k2
theorem s_Mo_fit_70 {G : j_G} {d B S N : Nat} {K : Nat → Option (Nat × Nat)} {M : Nat → Int → Int} {g : Nat → Int → Option Nat} {Q : j_O → j_S → Prop} {a0 : Nat} {x1 x2 x3 x4 x5 x6 x7 : Int} {q : Int → (Nat → Int → Int) → Prop} (hk1 : K a0 = some (0, 8)) (hC : j_Ct G jm_Mo_stands d 0 0 [jr_ a0, ji_ x1, ji_ x2, ji_ x6] (N, K, M, g) (j_pI N K g q)) (k1 : ∀ z M', q z M' → j_J G jm_Mo_fit (d + 1) B S 78 [jr_ a0, ji_ x1, ji_ x2, ji_ x3, ji_ x4, ji_ x5, ji_ x6, ji_ x7] [ji_ z] (N, K, M', g) Q) : j_J G jm_Mo_fit (d + 1) B S 70 [jr_ a0, ji_ x1, ji_ x2, ji_ x3, ji_ x4, ji_ x5, ji_ x6, ji_ x7] [] (N, K, M, g) Q :=
  j_aload_n d_Mo_fit_70 rfl <| j_iload_n d_Mo_fit_71 rfl <| j_iload_n d_Mo_fit_72 rfl <| j_iload d_Mo_fit_73 rfl <| j_aVI (as := [ji_ x1, ji_ x2, ji_ x6]) (rest := []) d_Mo_fit_75 c_Mo_196 hk1 rfl (Nat.le_of_ble_eq_true rfl) hC k1
theorem s_Mo_fit_78 {G : j_G} {d B S N : Nat} {K : Nat → Option (Nat × Nat)} {M : Nat → Int → Int} {g : Nat → Int → Option Nat} {Q : j_O → j_S → Prop} {a0 : Nat} {x1 x2 x3 x4 x5 x6 x7 t0 : Int} (r1 : -2147483648 ≤ t0 ∧ t0 ≤ 2147483647 := by omega) (k1 : t0 = 0 → j_J G jm_Mo_fit d B S 11 [jr_ a0, ji_ x1, ji_ x2, ji_ x3, ji_ x4, ji_ x5, ji_ (x6 + 1), ji_ x7] [] (N, K, M, g) Q) (k2 : t0 ≠ 0 → j_J G jm_Mo_fit d B S 11 [jr_ a0, ji_ x1, ji_ x2, ji_ x3, ji_ x6, ji_ x7, ji_ (x6 + 1), ji_ x7] [] (N, K, M, g) Q) : j_J G jm_Mo_fit d B S 78 [jr_ a0, ji_ x1, ji_ x2, ji_ x3, ji_ x4, ji_ x5, ji_ x6, ji_ x7] [ji_ t0] (N, K, M, g) Q :=
  j_if_eq d_Mo_fit_78 r1 (fun h => j_iinc d_Mo_fit_89 rfl rfl rfl <| j_goto d_Mo_fit_92 <| k1 h) (fun h => j_iload d_Mo_fit_81 rfl <| j_istore d_Mo_fit_83 rfl rfl <| j_iload d_Mo_fit_85 rfl <| j_istore d_Mo_fit_87 rfl rfl <| j_iinc d_Mo_fit_89 rfl rfl rfl <| j_goto d_Mo_fit_92 <| k2 h)
theorem s_Mo_fit_81 {G : j_G} {d B S N : Nat} {K : Nat → Option (Nat × Nat)} {M : Nat → Int → Int} {g : Nat → Int → Option Nat} {Q : j_O → j_S → Prop} {a0 : Nat} {x1 x2 x3 x4 x5 x6 x7 : Int}  (k1 : j_J G jm_Mo_fit d B S 11 [jr_ a0, ji_ x1, ji_ x2, ji_ x3, ji_ x6, ji_ x7, ji_ (x6 + 1), ji_ x7] [] (N, K, M, g) Q) : j_J G jm_Mo_fit d B S 81 [jr_ a0, ji_ x1, ji_ x2, ji_ x3, ji_ x4, ji_ x5, ji_ x6, ji_ x7] [] (N, K, M, g) Q :=
  j_iload d_Mo_fit_81 rfl <| j_istore d_Mo_fit_83 rfl rfl <| j_iload d_Mo_fit_85 rfl <| j_istore d_Mo_fit_87 rfl rfl <| (j_iinc d_Mo_fit_89 rfl rfl rfl <| j_goto d_Mo_fit_92 <| k1)
theorem s_Mo_fit_89 {G : j_G} {d B S N : Nat} {K : Nat → Option (Nat × Nat)} {M : Nat → Int → Int} {g : Nat → Int → Option Nat} {Q : j_O → j_S → Prop} {a0 : Nat} {x1 x2 x3 x4 x5 x6 x7 : Int}  (k1 : j_J G jm_Mo_fit d B S 11 [jr_ a0, ji_ x1, ji_ x2, ji_ x3, ji_ x4, ji_ x5, ji_ (x6 + 1), ji_ x7] [] (N, K, M, g) Q) : j_J G jm_Mo_fit d B S 89 [jr_ a0, ji_ x1, ji_ x2, ji_ x3, ji_ x4, ji_ x5, ji_ x6, ji_ x7] [] (N, K, M, g) Q :=
  j_iinc d_Mo_fit_89 rfl rfl rfl <| j_goto d_Mo_fit_92 k1
theorem s_Mo_fit_95 {G : j_G} {d B S N : Nat} {K : Nat → Option (Nat × Nat)} {M : Nat → Int → Int} {g : Nat → Int → Option Nat} {Q : j_O → j_S → Prop} {a0 : Nat} {x1 x2 x3 x4 x5 x6 : Int} {u7 : j_V}  (k1 : Q (.inl (some (ji_ x4))) (N, K, M, g)) : j_J G jm_Mo_fit d B S 95 [jr_ a0, ji_ x1, ji_ x2, ji_ x3, ji_ x4, ji_ x5, ji_ x6, u7] [] (N, K, M, g) Q :=
  j_iload d_Mo_fit_95 rfl <| j_ireturn d_Mo_fit_97 rfl k1
theorem s_Mo_emit_0 {G : j_G} {d B S N : Nat} {K : Nat → Option (Nat × Nat)} {M : Nat → Int → Int} {g : Nat → Int → Option Nat} {Q : j_O → j_S → Prop} {a0 y1 n2 : Nat} {x1 : Int} (hk1 : K a0 = some (0, 8)) (hg2 : g a0 36 = some y1) (hk2 : K y1 = some (1, n2)) (r3 : 0 ≤ (M a0 35) := by omega) (r3' : (M a0 35) < (n2 : Int) := by omega) (k1 : Q (.inl none) (N, K, (j_up (j_up M y1 (M a0 35) x1) a0 35 (((j_up M y1 (M a0 35) x1) a0 35) + 1)), g)) : j_J G jm_Mo_emit d B S 0 [jr_ a0, ji_ x1] [] (N, K, M, g) Q :=
  j_aload_n d_Mo_emit_0 rfl <| j_getR d_Mo_emit_1 f_Mo_82 hk1 hg2 <| j_aload_n d_Mo_emit_4 rfl <| j_getI d_Mo_emit_5 f_Mo_199 hk1 <| j_iload_n d_Mo_emit_8 rfl <| j_iast d_Mo_emit_9 hk2 r3 r3' <| j_aload_n d_Mo_emit_10 rfl <| j_dupR d_Mo_emit_11 <| j_getI d_Mo_emit_12 f_Mo_199 hk1 <| j_iconst d_Mo_emit_15 <| j_iadd d_Mo_emit_16 <| j_putI d_Mo_emit_17 f_Mo_199 (⟨_, rfl, Or.inl rfl⟩) rfl hk1 <| j_vreturn d_Mo_emit_20 rfl k1
theorem s_Mo_apply_0 {G : j_G} {d B S N : Nat} {K : Nat → Option (Nat × Nat)} {M : Nat → Int → Int} {g : Nat → Int → Option Nat} {Q : j_O → j_S → Prop} {a0 : Nat} {x1 : Int} {u2 u3 u4 u5 u6 u7 : j_V} {q : Int → (Nat → Int → Int) → Prop} (hC : j_Ct G jm_Mo_within d 0 0 [ji_ x1, ji_ 0, ji_ 3] (N, K, M, g) (j_pI N K g q)) (k1 : ∀ z M', q z M' → j_J G jm_Mo_apply (d + 1) B S 6 [jr_ a0, ji_ x1, u2, u3, u4, u5, u6, u7] [ji_ z] (N, K, M', g) Q) : j_J G jm_Mo_apply (d + 1) B S 0 [jr_ a0, ji_ x1, u2, u3, u4, u5, u6, u7] [] (N, K, M, g) Q :=
  j_iload_n d_Mo_apply_0 rfl <| j_iconst d_Mo_apply_1 <| j_iconst d_Mo_apply_2 <| j_aSI (as := [ji_ x1, ji_ 0, ji_ 3]) (rest := []) d_Mo_apply_3 c_Mo_88 rfl (Nat.le_of_ble_eq_true rfl) hC k1
theorem s_Mo_apply_6 {G : j_G} {d B S N : Nat} {K : Nat → Option (Nat × Nat)} {M : Nat → Int → Int} {g : Nat → Int → Option Nat} {Q : j_O → j_S → Prop} {a0 : Nat} {x1 t0 : Int} {u2 u3 u4 u5 u6 u7 : j_V} (r1 : -2147483648 ≤ t0 ∧ t0 ≤ 2147483647 := by omega) (k1 : t0 = 0 → Q (.inl (some (ji_ (-1)))) (N, K, M, g)) (k2 : t0 ≠ 0 → j_J G jm_Mo_apply d B S 9 [jr_ a0, ji_ x1, u2, u3, u4, u5, u6, u7] [] (N, K, M, g) Q) : j_J G jm_Mo_apply d B S 6 [jr_ a0, ji_ x1, u2, u3, u4, u5, u6, u7] [ji_ t0] (N, K, M, g) Q :=
  j_if_eq d_Mo_apply_6 r1 (fun h => j_iconst d_Mo_apply_16 <| j_ireturn d_Mo_apply_17 rfl <| k1 h) k2
theorem s_Mo_apply_9 {G : j_G} {d B S N : Nat} {K : Nat → Option (Nat × Nat)} {M : Nat → Int → Int} {g : Nat → Int → Option Nat} {Q : j_O → j_S → Prop} {a0 : Nat} {x1 : Int} {u2 u3 u4 u5 u6 u7 : j_V} {q : Int → (Nat → Int → Int) → Prop} (hk1 : K a0 = some (0, 8)) (hC : j_Ct G jm_Mo_read d 0 0 [jr_ a0] (N, K, M, g) (j_pI N K g q)) (k1 : ∀ z M', q z M' → j_J G jm_Mo_apply (d + 1) B S 13 [jr_ a0, ji_ x1, u2, u3, u4, u5, u6, u7] [ji_ z] (N, K, M', g) Q) : j_J G jm_Mo_apply (d + 1) B S 9 [jr_ a0, ji_ x1, u2, u3, u4, u5, u6, u7] [] (N, K, M, g) Q :=
  j_aload_n d_Mo_apply_9 rfl <| j_aVI (as := []) (rest := []) d_Mo_apply_10 c_Mo_202 hk1 rfl (Nat.le_of_ble_eq_true rfl) hC k1
theorem s_Mo_apply_13 {G : j_G} {d B S N : Nat} {K : Nat → Option (Nat × Nat)} {M : Nat → Int → Int} {g : Nat → Int → Option Nat} {Q : j_O → j_S → Prop} {a0 : Nat} {x1 t0 : Int} {u2 u3 u4 u5 u6 u7 : j_V} (r1 : -2147483648 ≤ t0 ∧ t0 ≤ 2147483647 := by omega) (k1 : t0 < 0 → j_J G jm_Mo_apply d B S 18 [jr_ a0, ji_ x1, u2, u3, u4, u5, u6, u7] [] (N, K, M, g) Q) (k2 : 0 ≤ t0 → Q (.inl (some (ji_ (-1)))) (N, K, M, g)) : j_J G jm_Mo_apply d B S 13 [jr_ a0, ji_ x1, u2, u3, u4, u5, u6, u7] [ji_ t0] (N, K, M, g) Q :=
  j_if_lt d_Mo_apply_13 r1 k1 (fun h => j_iconst d_Mo_apply_16 <| j_ireturn d_Mo_apply_17 rfl <| k2 h)
theorem s_Mo_apply_16 {G : j_G} {d B S N : Nat} {K : Nat → Option (Nat × Nat)} {M : Nat → Int → Int} {g : Nat → Int → Option Nat} {Q : j_O → j_S → Prop} {a0 : Nat} {x1 : Int} {u2 u3 u4 u5 u6 u7 : j_V}  (k1 : Q (.inl (some (ji_ (-1)))) (N, K, M, g)) : j_J G jm_Mo_apply d B S 16 [jr_ a0, ji_ x1, u2, u3, u4, u5, u6, u7] [] (N, K, M, g) Q :=
  j_iconst d_Mo_apply_16 <| j_ireturn d_Mo_apply_17 rfl k1
theorem s_Mo_apply_18 {G : j_G} {d B S N : Nat} {K : Nat → Option (Nat × Nat)} {M : Nat → Int → Int} {g : Nat → Int → Option Nat} {Q : j_O → j_S → Prop} {a0 y1 n2 : Nat} {x1 : Int} {u2 u3 u4 u5 u6 u7 : j_V} (hk1 : K a0 = some (0, 8)) (hg2 : g a0 1 = some y1) (hk2 : K y1 = some (1, n2)) (r3 : 0 ≤ x1 := by omega) (r3' : x1 < (n2 : Int) := by omega) (k1 : j_J G jm_Mo_apply d B S 30 [jr_ a0, ji_ x1, ji_ 0, ji_ (M y1 x1), ji_ 0, u5, u6, u7] [] (N, K, M, g) Q) : j_J G jm_Mo_apply d B S 18 [jr_ a0, ji_ x1, u2, u3, u4, u5, u6, u7] [] (N, K, M, g) Q :=
  j_iconst d_Mo_apply_18 <| j_istore_n d_Mo_apply_19 rfl rfl <| j_aload_n d_Mo_apply_20 rfl <| j_getR d_Mo_apply_21 f_Mo_13 hk1 hg2 <| j_iload_n d_Mo_apply_24 rfl <| j_iald d_Mo_apply_25 hk2 r3 r3' <| j_istore_n d_Mo_apply_26 rfl rfl <| j_iconst d_Mo_apply_27 <| j_istore d_Mo_apply_28 rfl rfl <| k1
theorem s_Mo_apply_30 {G : j_G} {d B S N : Nat} {K : Nat → Option (Nat × Nat)} {M : Nat → Int → Int} {g : Nat → Int → Option Nat} {Q : j_O → j_S → Prop} {a0 : Nat} {x1 x2 x3 x4 : Int} {u5 u6 u7 : j_V} (hk1 : K a0 = some (0, 8)) (r1 : -2147483648 ≤ x4 ∧ x4 ≤ 2147483647 := by omega) (r2 : -2147483648 ≤ (M a0 26) ∧ (M a0 26) ≤ 2147483647 := by omega) (k1 : (M a0 26) ≤ x4 → j_J G jm_Mo_apply d B S 116 [jr_ a0, ji_ x1, ji_ x2, ji_ x3, ji_ x4, u5, u6, u7] [] (N, K, M, g) Q) (k2 : x4 < (M a0 26) → j_J G jm_Mo_apply d B S 39 [jr_ a0, ji_ x1, ji_ x2, ji_ x3, ji_ x4, u5, u6, u7] [] (N, K, M, g) Q) : j_J G jm_Mo_apply d B S 30 [jr_ a0, ji_ x1, ji_ x2, ji_ x3, ji_ x4, u5, u6, u7] [] (N, K, M, g) Q :=
  j_iload d_Mo_apply_30 rfl <| j_aload_n d_Mo_apply_32 rfl <| j_getI d_Mo_apply_33 f_Mo_187 hk1 <| j_icmp_ge d_Mo_apply_36 r1 r2 k1 k2
theorem s_Mo_apply_39 {G : j_G} {d B S N : Nat} {K : Nat → Option (Nat × Nat)} {M : Nat → Int → Int} {g : Nat → Int → Option Nat} {Q : j_O → j_S → Prop} {a0 y1 : Nat} {x1 x2 x3 x4 : Int} {u5 u6 u7 : j_V} {q : Int → (Nat → Int → Int) → Prop} (hk1 : K a0 = some (0, 8)) (hg2 : g a0 32 = some y1) (hC : j_Ct G jm_Mo_fit d 0 0 [jr_ a0, ji_ x4, ji_ x1, ji_ x2] (N, K, M, g) (j_pI N K g q)) (k1 : ∀ z M', q z M' → j_J G jm_Mo_apply (d + 1) B S 53 [jr_ a0, ji_ x1, ji_ x2, ji_ x3, ji_ x4, u5, u6, u7] [ji_ z, ji_ x4, jr_ y1] (N, K, M', g) Q) : j_J G jm_Mo_apply (d + 1) B S 39 [jr_ a0, ji_ x1, ji_ x2, ji_ x3, ji_ x4, u5, u6, u7] [] (N, K, M, g) Q :=
  j_aload_n d_Mo_apply_39 rfl <| j_getR d_Mo_apply_40 f_Mo_79 hk1 hg2 <| j_iload d_Mo_apply_43 rfl <| j_aload_n d_Mo_apply_45 rfl <| j_iload d_Mo_apply_46 rfl <| j_iload_n d_Mo_apply_48 rfl <| j_iload_n d_Mo_apply_49 rfl <| j_aVI (as := [ji_ x4, ji_ x1, ji_ x2]) (rest := [ji_ x4, jr_ y1]) d_Mo_apply_50 c_Mo_205 hk1 rfl (Nat.le_of_ble_eq_true rfl) hC k1
theorem s_Mo_apply_53 {G : j_G} {d B S N : Nat} {K : Nat → Option (Nat × Nat)} {M : Nat → Int → Int} {g : Nat → Int → Option Nat} {Q : j_O → j_S → Prop} {a0 b0 n1 y2 n3 y5 n4 y8 n5 : Nat} {x1 x2 x3 x4 t1 t2 : Int} {u5 u6 u7 : j_V} (hk1 : K b0 = some (1, n1)) (r1 : 0 ≤ t1 := by omega) (r1' : t1 < (n1 : Int) := by omega) (hk2 : K a0 = some (0, 8)) (hg3 : g a0 29 = some y2) (hk3 : K y2 = some (1, n3)) (r4 : 0 ≤ x4 := by omega) (r4' : x4 < (n3 : Int) := by omega) (hg6 : g a0 28 = some y5) (hk4 : K y5 = some (1, n4)) (r7 : 0 ≤ x4 := by omega) (r7' : x4 < (n4 : Int) := by omega) (hg9 : g a0 32 = some y8) (hk5 : K y8 = some (1, n5)) (r10 : 0 ≤ x4 := by omega) (r10' : x4 < (n5 : Int) := by omega) (r11 : -2147483648 ≤ ((j_up M b0 t1 t2) y8 x4) ∧ ((j_up M b0 t1 t2) y8 x4) ≤ 2147483647 := by omega) (k1 : ((j_up M b0 t1 t2) y8 x4) < 0 → Q (.inl (some (ji_ ((-3) - x4)))) (N, K, (j_up M b0 t1 t2), g)) (k2 : 0 ≤ ((j_up M b0 t1 t2) y8 x4) → j_J G jm_Mo_apply d B S 82 [jr_ a0, ji_ x1, ji_ x2, ji_ ((x3 + ((j_up M b0 t1 t2) y2 x4)) - ((j_up M b0 t1 t2) y5 x4)), ji_ x4, u5, u6, u7] [] (N, K, (j_up M b0 t1 t2), g) Q) : j_J G jm_Mo_apply d B S 53 [jr_ a0, ji_ x1, ji_ x2, ji_ x3, ji_ x4, u5, u6, u7] [ji_ t2, ji_ t1, jr_ b0] (N, K, M, g) Q :=
  j_iast d_Mo_apply_53 hk1 r1 r1' <| j_iload_n d_Mo_apply_54 rfl <| j_aload_n d_Mo_apply_55 rfl <| j_getR d_Mo_apply_56 f_Mo_70 hk2 hg3 <| j_iload d_Mo_apply_59 rfl <| j_iald d_Mo_apply_61 hk3 r4 r4' <| j_iadd d_Mo_apply_62 <| j_aload_n d_Mo_apply_63 rfl <| j_getR d_Mo_apply_64 f_Mo_67 hk2 hg6 <| j_iload d_Mo_apply_67 rfl <| j_iald d_Mo_apply_69 hk4 r7 r7' <| j_isub d_Mo_apply_70 <| j_istore_n d_Mo_apply_71 rfl rfl <| j_aload_n d_Mo_apply_72 rfl <| j_getR d_Mo_apply_73 f_Mo_79 hk2 hg9 <| j_iload d_Mo_apply_76 rfl <| j_iald d_Mo_apply_78 hk5 r10 r10' <| j_if_lt d_Mo_apply_79 r11 (fun h => j_bipush d_Mo_apply_88 (by decide) <| j_iload d_Mo_apply_90 rfl <| j_isub d_Mo_apply_92 <| j_ireturn d_Mo_apply_93 rfl <| k1 h) k2
theorem s_Mo_apply_82 {G : j_G} {d B S N : Nat} {K : Nat → Option (Nat × Nat)} {M : Nat → Int → Int} {g : Nat → Int → Option Nat} {Q : j_O → j_S → Prop} {a0 : Nat} {x1 x2 x3 x4 : Int} {u5 u6 u7 : j_V} (r1 : -2147483648 ≤ x3 ∧ x3 ≤ 2147483647 := by omega) (k1 : x3 ≤ 24 → j_J G jm_Mo_apply d B S 94 [jr_ a0, ji_ x1, ji_ x2, ji_ x3, ji_ x4, u5, u6, u7] [] (N, K, M, g) Q) (k2 : 24 < x3 → Q (.inl (some (ji_ ((-3) - x4)))) (N, K, M, g)) : j_J G jm_Mo_apply d B S 82 [jr_ a0, ji_ x1, ji_ x2, ji_ x3, ji_ x4, u5, u6, u7] [] (N, K, M, g) Q :=
  j_iload_n d_Mo_apply_82 rfl <| j_bipush d_Mo_apply_83 (by decide) <| j_icmp_le d_Mo_apply_85 r1 (by decide) k1 (fun h => j_bipush d_Mo_apply_88 (by decide) <| j_iload d_Mo_apply_90 rfl <| j_isub d_Mo_apply_92 <| j_ireturn d_Mo_apply_93 rfl <| k2 h)
theorem s_Mo_apply_88 {G : j_G} {d B S N : Nat} {K : Nat → Option (Nat × Nat)} {M : Nat → Int → Int} {g : Nat → Int → Option Nat} {Q : j_O → j_S → Prop} {a0 : Nat} {x1 x2 x3 x4 : Int} {u5 u6 u7 : j_V}  (k1 : Q (.inl (some (ji_ ((-3) - x4)))) (N, K, M, g)) : j_J G jm_Mo_apply d B S 88 [jr_ a0, ji_ x1, ji_ x2, ji_ x3, ji_ x4, u5, u6, u7] [] (N, K, M, g) Q :=
  j_bipush d_Mo_apply_88 (by decide) <| j_iload d_Mo_apply_90 rfl <| j_isub d_Mo_apply_92 <| j_ireturn d_Mo_apply_93 rfl k1
theorem s_Mo_apply_94 {G : j_G} {d B S N : Nat} {K : Nat → Option (Nat × Nat)} {M : Nat → Int → Int} {g : Nat → Int → Option Nat} {Q : j_O → j_S → Prop} {a0 y1 n2 y4 n3 : Nat} {x1 x2 x3 x4 : Int} {u5 u6 u7 : j_V} (hk1 : K a0 = some (0, 8)) (hg2 : g a0 32 = some y1) (hk2 : K y1 = some (1, n2)) (r3 : 0 ≤ x4 := by omega) (r3' : x4 < (n2 : Int) := by omega) (hg5 : g a0 28 = some y4) (hk3 : K y4 = some (1, n3)) (r6 : 0 ≤ x4 := by omega) (r6' : x4 < (n3 : Int) := by omega) (k1 : j_J G jm_Mo_apply d B S 30 [jr_ a0, ji_ x1, ji_ ((M y1 x4) + (M y4 x4)), ji_ x3, ji_ (x4 + 1), u5, u6, u7] [] (N, K, M, g) Q) : j_J G jm_Mo_apply d B S 94 [jr_ a0, ji_ x1, ji_ x2, ji_ x3, ji_ x4, u5, u6, u7] [] (N, K, M, g) Q :=
  j_aload_n d_Mo_apply_94 rfl <| j_getR d_Mo_apply_95 f_Mo_79 hk1 hg2 <| j_iload d_Mo_apply_98 rfl <| j_iald d_Mo_apply_100 hk2 r3 r3' <| j_aload_n d_Mo_apply_101 rfl <| j_getR d_Mo_apply_102 f_Mo_67 hk1 hg5 <| j_iload d_Mo_apply_105 rfl <| j_iald d_Mo_apply_107 hk3 r6 r6' <| j_iadd d_Mo_apply_108 <| j_istore_n d_Mo_apply_109 rfl rfl <| j_iinc d_Mo_apply_110 rfl rfl rfl <| j_goto d_Mo_apply_113 k1
theorem s_Mo_apply_116 {G : j_G} {d B S N : Nat} {K : Nat → Option (Nat × Nat)} {M : Nat → Int → Int} {g : Nat → Int → Option Nat} {Q : j_O → j_S → Prop} {a0 : Nat} {x1 x2 x3 x4 : Int} {u5 u6 u7 : j_V} (hk1 : K a0 = some (0, 8)) (k1 : j_J G jm_Mo_apply d B S 127 [jr_ a0, ji_ x1, ji_ x2, ji_ x3, ji_ 0, ji_ 0, u6, u7] [] (N, K, (j_up M a0 35 0), g) Q) : j_J G jm_Mo_apply d B S 116 [jr_ a0, ji_ x1, ji_ x2, ji_ x3, ji_ x4, u5, u6, u7] [] (N, K, M, g) Q :=
  j_aload_n d_Mo_apply_116 rfl <| j_iconst d_Mo_apply_117 <| j_putI d_Mo_apply_118 f_Mo_199 (⟨_, rfl, Or.inl rfl⟩) rfl hk1 <| j_iconst d_Mo_apply_121 <| j_istore d_Mo_apply_122 rfl rfl <| j_iconst d_Mo_apply_124 <| j_istore d_Mo_apply_125 rfl rfl <| k1
theorem s_Mo_apply_127 {G : j_G} {d B S N : Nat} {K : Nat → Option (Nat × Nat)} {M : Nat → Int → Int} {g : Nat → Int → Option Nat} {Q : j_O → j_S → Prop} {a0 : Nat} {x1 x2 x3 x4 x5 : Int} {u6 u7 : j_V} (hk1 : K a0 = some (0, 8)) (r1 : -2147483648 ≤ x5 ∧ x5 ≤ 2147483647 := by omega) (r2 : -2147483648 ≤ (M a0 26) ∧ (M a0 26) ≤ 2147483647 := by omega) (k1 : (M a0 26) ≤ x5 → j_J G jm_Mo_apply d B S 248 [jr_ a0, ji_ x1, ji_ x2, ji_ x3, ji_ x4, ji_ x5, u6, u7] [] (N, K, M, g) Q) (k2 : x5 < (M a0 26) → j_J G jm_Mo_apply d B S 136 [jr_ a0, ji_ x1, ji_ x2, ji_ x3, ji_ x4, ji_ x5, u6, u7] [] (N, K, M, g) Q) : j_J G jm_Mo_apply d B S 127 [jr_ a0, ji_ x1, ji_ x2, ji_ x3, ji_ x4, ji_ x5, u6, u7] [] (N, K, M, g) Q :=
  j_iload d_Mo_apply_127 rfl <| j_aload_n d_Mo_apply_129 rfl <| j_getI d_Mo_apply_130 f_Mo_187 hk1 <| j_icmp_ge d_Mo_apply_133 r1 r2 k1 k2
theorem s_Mo_apply_136 {G : j_G} {d B S N : Nat} {K : Nat → Option (Nat × Nat)} {M : Nat → Int → Int} {g : Nat → Int → Option Nat} {Q : j_O → j_S → Prop} {a0 y1 n2 : Nat} {x1 x2 x3 x4 x5 : Int} {u6 u7 : j_V} (hk1 : K a0 = some (0, 8)) (hg2 : g a0 32 = some y1) (hk2 : K y1 = some (1, n2)) (r3 : 0 ≤ x5 := by omega) (r3' : x5 < (n2 : Int) := by omega) (r4 : -2147483648 ≤ x4 ∧ x4 ≤ 2147483647 := by omega) (r5 : -2147483648 ≤ (M y1 x5) ∧ (M y1 x5) ≤ 2147483647 := by omega) (k1 : (M y1 x5) ≤ x4 → j_J G jm_Mo_apply d B S 173 [jr_ a0, ji_ x1, ji_ x2, ji_ x3, ji_ x4, ji_ x5, ji_ 0, u7] [] (N, K, M, g) Q) (k2 : x4 < (M y1 x5) → j_J G jm_Mo_apply d B S 148 [jr_ a0, ji_ x1, ji_ x2, ji_ x3, ji_ x4, ji_ x5, u6, u7] [] (N, K, M, g) Q) : j_J G jm_Mo_apply d B S 136 [jr_ a0, ji_ x1, ji_ x2, ji_ x3, ji_ x4, ji_ x5, u6, u7] [] (N, K, M, g) Q :=
  j_iload d_Mo_apply_136 rfl <| j_aload_n d_Mo_apply_138 rfl <| j_getR d_Mo_apply_139 f_Mo_79 hk1 hg2 <| j_iload d_Mo_apply_142 rfl <| j_iald d_Mo_apply_144 hk2 r3 r3' <| j_icmp_ge d_Mo_apply_145 r4 r5 (fun h => j_iconst d_Mo_apply_170 <| j_istore d_Mo_apply_171 rfl rfl <| k1 h) k2
theorem s_Mo_apply_148 {G : j_G} {d B S N : Nat} {K : Nat → Option (Nat × Nat)} {M : Nat → Int → Int} {g : Nat → Int → Option Nat} {Q : j_O → j_S → Prop} {a0 y1 n2 : Nat} {x1 x2 x3 x4 x5 : Int} {u6 u7 : j_V} {q : (Nat → Int → Int) → Prop} (hk1 : K a0 = some (0, 8)) (hg2 : g a0 0 = some y1) (hk2 : K y1 = some (1, n2)) (r3 : 0 ≤ ((24 * x1) + x4) := by omega) (r3' : ((24 * x1) + x4) < (n2 : Int) := by omega) (hC : j_Ct G jm_Mo_emit d 0 0 [jr_ a0, ji_ (M y1 ((24 * x1) + x4))] (N, K, M, g) (j_pV N K g q)) (k1 : ∀ M', q M' → j_J G jm_Mo_apply (d + 1) B S 164 [jr_ a0, ji_ x1, ji_ x2, ji_ x3, ji_ x4, ji_ x5, u6, u7] [] (N, K, M', g) Q) : j_J G jm_Mo_apply (d + 1) B S 148 [jr_ a0, ji_ x1, ji_ x2, ji_ x3, ji_ x4, ji_ x5, u6, u7] [] (N, K, M, g) Q :=
  j_aload_n d_Mo_apply_148 rfl <| j_aload_n d_Mo_apply_149 rfl <| j_getR d_Mo_apply_150 f_Mo_7 hk1 hg2 <| j_bipush d_Mo_apply_153 (by decide) <| j_iload_n d_Mo_apply_155 rfl <| j_imul d_Mo_apply_156 <| j_iload d_Mo_apply_157 rfl <| j_iadd d_Mo_apply_159 <| j_iald d_Mo_apply_160 hk2 r3 r3' <| j_aVV (as := [ji_ (M y1 ((24 * x1) + x4))]) (rest := []) d_Mo_apply_161 c_Mo_208 hk1 rfl (Nat.le_of_ble_eq_true rfl) hC k1
theorem s_Mo_apply_164 {G : j_G} {d B S N : Nat} {K : Nat → Option (Nat × Nat)} {M : Nat → Int → Int} {g : Nat → Int → Option Nat} {Q : j_O → j_S → Prop} {a0 : Nat} {x1 x2 x3 x4 x5 : Int} {u6 u7 : j_V}  (k1 : j_J G jm_Mo_apply d B S 136 [jr_ a0, ji_ x1, ji_ x2, ji_ x3, ji_ (x4 + 1), ji_ x5, u6, u7] [] (N, K, M, g) Q) : j_J G jm_Mo_apply d B S 164 [jr_ a0, ji_ x1, ji_ x2, ji_ x3, ji_ x4, ji_ x5, u6, u7] [] (N, K, M, g) Q :=
  j_iinc d_Mo_apply_164 rfl rfl rfl <| j_goto d_Mo_apply_167 k1
theorem s_Mo_apply_170 {G : j_G} {d B S N : Nat} {K : Nat → Option (Nat × Nat)} {M : Nat → Int → Int} {g : Nat → Int → Option Nat} {Q : j_O → j_S → Prop} {a0 : Nat} {x1 x2 x3 x4 x5 : Int} {u6 u7 : j_V}  (k1 : j_J G jm_Mo_apply d B S 173 [jr_ a0, ji_ x1, ji_ x2, ji_ x3, ji_ x4, ji_ x5, ji_ 0, u7] [] (N, K, M, g) Q) : j_J G jm_Mo_apply d B S 170 [jr_ a0, ji_ x1, ji_ x2, ji_ x3, ji_ x4, ji_ x5, u6, u7] [] (N, K, M, g) Q :=
  j_iconst d_Mo_apply_170 <| j_istore d_Mo_apply_171 rfl rfl <| k1
theorem s_Mo_apply_173 {G : j_G} {d B S N : Nat} {K : Nat → Option (Nat × Nat)} {M : Nat → Int → Int} {g : Nat → Int → Option Nat} {Q : j_O → j_S → Prop} {a0 y1 n2 : Nat} {x1 x2 x3 x4 x5 x6 : Int} {u7 : j_V} (hk1 : K a0 = some (0, 8)) (hg2 : g a0 30 = some y1) (hk2 : K y1 = some (1, n2)) (r3 : 0 ≤ x5 := by omega) (r3' : x5 < (n2 : Int) := by omega) (r4 : -2147483648 ≤ x6 ∧ x6 ≤ 2147483647 := by omega) (r5 : -2147483648 ≤ (M y1 x5) ∧ (M y1 x5) ≤ 2147483647 := by omega) (k1 : (M y1 x5) ≤ x6 → j_J G jm_Mo_apply d B S 230 [jr_ a0, ji_ x1, ji_ x2, ji_ x3, ji_ x4, ji_ x5, ji_ x6, u7] [] (N, K, M, g) Q) (k2 : x6 < (M y1 x5) → j_J G jm_Mo_apply d B S 185 [jr_ a0, ji_ x1, ji_ x2, ji_ x3, ji_ x4, ji_ x5, ji_ x6, u7] [] (N, K, M, g) Q) : j_J G jm_Mo_apply d B S 173 [jr_ a0, ji_ x1, ji_ x2, ji_ x3, ji_ x4, ji_ x5, ji_ x6, u7] [] (N, K, M, g) Q :=
  j_iload d_Mo_apply_173 rfl <| j_aload_n d_Mo_apply_175 rfl <| j_getR d_Mo_apply_176 f_Mo_73 hk1 hg2 <| j_iload d_Mo_apply_179 rfl <| j_iald d_Mo_apply_181 hk2 r3 r3' <| j_icmp_ge d_Mo_apply_182 r4 r5 k1 k2
theorem s_Mo_apply_185 {G : j_G} {d B S N : Nat} {K : Nat → Option (Nat × Nat)} {M : Nat → Int → Int} {g : Nat → Int → Option Nat} {Q : j_O → j_S → Prop} {a0 y1 n2 y4 n3 : Nat} {x1 x2 x3 x4 x5 x6 : Int} {u7 : j_V} (hk1 : K a0 = some (0, 8)) (hg2 : g a0 31 = some y1) (hk2 : K y1 = some (1, n2)) (r3 : 0 ≤ x5 := by omega) (r3' : x5 < (n2 : Int) := by omega) (hg5 : g a0 25 = some y4) (hk3 : K y4 = some (1, n3)) (r6 : 0 ≤ ((M y1 x5) + (3 * x6)) := by omega) (r6' : ((M y1 x5) + (3 * x6)) < (n3 : Int) := by omega) (r7 : -2147483648 ≤ (M y4 ((M y1 x5) + (3 * x6))) ∧ (M y4 ((M y1 x5) + (3 * x6))) ≤ 2147483647 := by omega) (k1 : (M y4 ((M y1 x5) + (3 * x6))) = 45 → j_J G jm_Mo_apply d B S 173 [jr_ a0, ji_ x1, ji_ x2, ji_ x3, ji_ x4, ji_ x5, ji_ (x6 + 1), ji_ ((M y1 x5) + (3 * x6))] [] (N, K, M, g) Q) (k2 : (M y4 ((M y1 x5) + (3 * x6))) ≠ 45 → j_J G jm_Mo_apply d B S 211 [jr_ a0, ji_ x1, ji_ x2, ji_ x3, ji_ x4, ji_ x5, ji_ x6, ji_ ((M y1 x5) + (3 * x6))] [] (N, K, M, g) Q) : j_J G jm_Mo_apply d B S 185 [jr_ a0, ji_ x1, ji_ x2, ji_ x3, ji_ x4, ji_ x5, ji_ x6, u7] [] (N, K, M, g) Q :=
  j_aload_n d_Mo_apply_185 rfl <| j_getR d_Mo_apply_186 f_Mo_76 hk1 hg2 <| j_iload d_Mo_apply_189 rfl <| j_iald d_Mo_apply_191 hk2 r3 r3' <| j_iconst d_Mo_apply_192 <| j_iload d_Mo_apply_193 rfl <| j_imul d_Mo_apply_195 <| j_iadd d_Mo_apply_196 <| j_istore d_Mo_apply_197 rfl rfl <| j_aload_n d_Mo_apply_199 rfl <| j_getR d_Mo_apply_200 f_Mo_61 hk1 hg5 <| j_iload d_Mo_apply_203 rfl <| j_iald d_Mo_apply_205 hk3 r6 r6' <| j_bipush d_Mo_apply_206 (by decide) <| j_icmp_eq d_Mo_apply_208 r7 (by decide) (fun h => j_iinc d_Mo_apply_224 rfl rfl rfl <| j_goto d_Mo_apply_227 <| k1 h) k2
theorem s_Mo_apply_211 {G : j_G} {d B S N : Nat} {K : Nat → Option (Nat × Nat)} {M : Nat → Int → Int} {g : Nat → Int → Option Nat} {Q : j_O → j_S → Prop} {a0 y1 n2 : Nat} {x1 x2 x3 x4 x5 x6 x7 : Int} {q : (Nat → Int → Int) → Prop} (hk1 : K a0 = some (0, 8)) (hg2 : g a0 25 = some y1) (hk2 : K y1 = some (1, n2)) (r3 : 0 ≤ (x7 + 1) := by omega) (r3' : (x7 + 1) < (n2 : Int) := by omega) (hC : j_Ct G jm_Mo_emit d 0 0 [jr_ a0, ji_ (M y1 (x7 + 1))] (N, K, M, g) (j_pV N K g q)) (k1 : ∀ M', q M' → j_J G jm_Mo_apply (d + 1) B S 224 [jr_ a0, ji_ x1, ji_ x2, ji_ x3, ji_ x4, ji_ x5, ji_ x6, ji_ x7] [] (N, K, M', g) Q) : j_J G jm_Mo_apply (d + 1) B S 211 [jr_ a0, ji_ x1, ji_ x2, ji_ x3, ji_ x4, ji_ x5, ji_ x6, ji_ x7] [] (N, K, M, g) Q :=
  j_aload_n d_Mo_apply_211 rfl <| j_aload_n d_Mo_apply_212 rfl <| j_getR d_Mo_apply_213 f_Mo_61 hk1 hg2 <| j_iload d_Mo_apply_216 rfl <| j_iconst d_Mo_apply_218 <| j_iadd d_Mo_apply_219 <| j_iald d_Mo_apply_220 hk2 r3 r3' <| j_aVV (as := [ji_ (M y1 (x7 + 1))]) (rest := []) d_Mo_apply_221 c_Mo_208 hk1 rfl (Nat.le_of_ble_eq_true rfl) hC k1
theorem s_Mo_apply_224 {G : j_G} {d B S N : Nat} {K : Nat → Option (Nat × Nat)} {M : Nat → Int → Int} {g : Nat → Int → Option Nat} {Q : j_O → j_S → Prop} {a0 : Nat} {x1 x2 x3 x4 x5 x6 x7 : Int}  (k1 : j_J G jm_Mo_apply d B S 173 [jr_ a0, ji_ x1, ji_ x2, ji_ x3, ji_ x4, ji_ x5, ji_ (x6 + 1), ji_ x7] [] (N, K, M, g) Q) : j_J G jm_Mo_apply d B S 224 [jr_ a0, ji_ x1, ji_ x2, ji_ x3, ji_ x4, ji_ x5, ji_ x6, ji_ x7] [] (N, K, M, g) Q :=
  j_iinc d_Mo_apply_224 rfl rfl rfl <| j_goto d_Mo_apply_227 k1
theorem s_Mo_apply_230 {G : j_G} {d B S N : Nat} {K : Nat → Option (Nat × Nat)} {M : Nat → Int → Int} {g : Nat → Int → Option Nat} {Q : j_O → j_S → Prop} {a0 y1 n2 : Nat} {x1 x2 x3 x4 x5 x6 : Int} {u7 : j_V} (hk1 : K a0 = some (0, 8)) (hg2 : g a0 28 = some y1) (hk2 : K y1 = some (1, n2)) (r3 : 0 ≤ x5 := by omega) (r3' : x5 < (n2 : Int) := by omega) (k1 : j_J G jm_Mo_apply d B S 127 [jr_ a0, ji_ x1, ji_ x2, ji_ x3, ji_ (x4 + (M y1 x5)), ji_ (x5 + 1), ji_ x6, u7] [] (N, K, M, g) Q) : j_J G jm_Mo_apply d B S 230 [jr_ a0, ji_ x1, ji_ x2, ji_ x3, ji_ x4, ji_ x5, ji_ x6, u7] [] (N, K, M, g) Q :=
  j_iload d_Mo_apply_230 rfl <| j_aload_n d_Mo_apply_232 rfl <| j_getR d_Mo_apply_233 f_Mo_67 hk1 hg2 <| j_iload d_Mo_apply_236 rfl <| j_iald d_Mo_apply_238 hk2 r3 r3' <| j_iadd d_Mo_apply_239 <| j_istore d_Mo_apply_240 rfl rfl <| j_iinc d_Mo_apply_242 rfl rfl rfl <| j_goto d_Mo_apply_245 k1
theorem s_Mo_apply_248 {G : j_G} {d B S N : Nat} {K : Nat → Option (Nat × Nat)} {M : Nat → Int → Int} {g : Nat → Int → Option Nat} {Q : j_O → j_S → Prop} {a0 y1 n2 : Nat} {x1 x2 x3 x4 x5 : Int} {u6 u7 : j_V} (hk1 : K a0 = some (0, 8)) (hg2 : g a0 1 = some y1) (hk2 : K y1 = some (1, n2)) (r3 : 0 ≤ x1 := by omega) (r3' : x1 < (n2 : Int) := by omega) (r4 : -2147483648 ≤ x4 ∧ x4 ≤ 2147483647 := by omega) (r5 : -2147483648 ≤ (M y1 x1) ∧ (M y1 x1) ≤ 2147483647 := by omega) (k1 : (M y1 x1) ≤ x4 → j_J G jm_Mo_apply d B S 281 [jr_ a0, ji_ x1, ji_ x2, ji_ x3, ji_ x4, ji_ x5, u6, u7] [] (N, K, M, g) Q) (k2 : x4 < (M y1 x1) → j_J G jm_Mo_apply d B S 259 [jr_ a0, ji_ x1, ji_ x2, ji_ x3, ji_ x4, ji_ x5, u6, u7] [] (N, K, M, g) Q) : j_J G jm_Mo_apply d B S 248 [jr_ a0, ji_ x1, ji_ x2, ji_ x3, ji_ x4, ji_ x5, u6, u7] [] (N, K, M, g) Q :=
  j_iload d_Mo_apply_248 rfl <| j_aload_n d_Mo_apply_250 rfl <| j_getR d_Mo_apply_251 f_Mo_13 hk1 hg2 <| j_iload_n d_Mo_apply_254 rfl <| j_iald d_Mo_apply_255 hk2 r3 r3' <| j_icmp_ge d_Mo_apply_256 r4 r5 k1 k2
theorem s_Mo_apply_259 {G : j_G} {d B S N : Nat} {K : Nat → Option (Nat × Nat)} {M : Nat → Int → Int} {g : Nat → Int → Option Nat} {Q : j_O → j_S → Prop} {a0 y1 n2 : Nat} {x1 x2 x3 x4 x5 : Int} {u6 u7 : j_V} {q : (Nat → Int → Int) → Prop} (hk1 : K a0 = some (0, 8)) (hg2 : g a0 0 = some y1) (hk2 : K y1 = some (1, n2)) (r3 : 0 ≤ ((24 * x1) + x4) := by omega) (r3' : ((24 * x1) + x4) < (n2 : Int) := by omega) (hC : j_Ct G jm_Mo_emit d 0 0 [jr_ a0, ji_ (M y1 ((24 * x1) + x4))] (N, K, M, g) (j_pV N K g q)) (k1 : ∀ M', q M' → j_J G jm_Mo_apply (d + 1) B S 275 [jr_ a0, ji_ x1, ji_ x2, ji_ x3, ji_ x4, ji_ x5, u6, u7] [] (N, K, M', g) Q) : j_J G jm_Mo_apply (d + 1) B S 259 [jr_ a0, ji_ x1, ji_ x2, ji_ x3, ji_ x4, ji_ x5, u6, u7] [] (N, K, M, g) Q :=
  j_aload_n d_Mo_apply_259 rfl <| j_aload_n d_Mo_apply_260 rfl <| j_getR d_Mo_apply_261 f_Mo_7 hk1 hg2 <| j_bipush d_Mo_apply_264 (by decide) <| j_iload_n d_Mo_apply_266 rfl <| j_imul d_Mo_apply_267 <| j_iload d_Mo_apply_268 rfl <| j_iadd d_Mo_apply_270 <| j_iald d_Mo_apply_271 hk2 r3 r3' <| j_aVV (as := [ji_ (M y1 ((24 * x1) + x4))]) (rest := []) d_Mo_apply_272 c_Mo_208 hk1 rfl (Nat.le_of_ble_eq_true rfl) hC k1
theorem s_Mo_apply_275 {G : j_G} {d B S N : Nat} {K : Nat → Option (Nat × Nat)} {M : Nat → Int → Int} {g : Nat → Int → Option Nat} {Q : j_O → j_S → Prop} {a0 : Nat} {x1 x2 x3 x4 x5 : Int} {u6 u7 : j_V}  (k1 : j_J G jm_Mo_apply d B S 248 [jr_ a0, ji_ x1, ji_ x2, ji_ x3, ji_ (x4 + 1), ji_ x5, u6, u7] [] (N, K, M, g) Q) : j_J G jm_Mo_apply d B S 275 [jr_ a0, ji_ x1, ji_ x2, ji_ x3, ji_ x4, ji_ x5, u6, u7] [] (N, K, M, g) Q :=
  j_iinc d_Mo_apply_275 rfl rfl rfl <| j_goto d_Mo_apply_278 k1
theorem s_Mo_apply_281 {G : j_G} {d B S N : Nat} {K : Nat → Option (Nat × Nat)} {M : Nat → Int → Int} {g : Nat → Int → Option Nat} {Q : j_O → j_S → Prop} {a0 : Nat} {x1 x2 x3 x4 x5 : Int} {u6 u7 : j_V} {q : (Nat → Int → Int) → Prop} (hk1 : K a0 = some (0, 8)) (hC : j_Ct G jm_Mo_keep d 0 0 [jr_ a0, ji_ x1] (N, K, M, g) (j_pV N K g q)) (k1 : ∀ M', q M' → j_J G jm_Mo_apply (d + 1) B S 286 [jr_ a0, ji_ x1, ji_ x2, ji_ x3, ji_ x4, ji_ x5, u6, u7] [] (N, K, M', g) Q) : j_J G jm_Mo_apply (d + 1) B S 281 [jr_ a0, ji_ x1, ji_ x2, ji_ x3, ji_ x4, ji_ x5, u6, u7] [] (N, K, M, g) Q :=
  j_aload_n d_Mo_apply_281 rfl <| j_iload_n d_Mo_apply_282 rfl <| j_aVV (as := [ji_ x1]) (rest := []) d_Mo_apply_283 c_Mo_211 hk1 rfl (Nat.le_of_ble_eq_true rfl) hC k1
theorem s_Mo_apply_286 {G : j_G} {d B S N : Nat} {K : Nat → Option (Nat × Nat)} {M : Nat → Int → Int} {g : Nat → Int → Option Nat} {Q : j_O → j_S → Prop} {a0 : Nat} {x1 x2 x3 x4 x5 : Int} {u6 u7 : j_V} (hk1 : K a0 = some (0, 8)) (k1 : Q (.inl (some (ji_ (M a0 26)))) (N, K, M, g)) : j_J G jm_Mo_apply d B S 286 [jr_ a0, ji_ x1, ji_ x2, ji_ x3, ji_ x4, ji_ x5, u6, u7] [] (N, K, M, g) Q :=
  j_aload_n d_Mo_apply_286 rfl <| j_getI d_Mo_apply_287 f_Mo_187 hk1 <| j_ireturn d_Mo_apply_290 rfl k1
theorem s_Mo_keep_0 {G : j_G} {d B S N : Nat} {K : Nat → Option (Nat × Nat)} {M : Nat → Int → Int} {g : Nat → Int → Option Nat} {Q : j_O → j_S → Prop} {a0 y1 n2 : Nat} {x1 : Int} {u2 : j_V} (hk1 : K a0 = some (0, 8)) (hg2 : g a0 1 = some y1) (hk2 : K y1 = some (1, n2)) (r3 : 0 ≤ x1 := by omega) (r3' : x1 < (n2 : Int) := by omega) (k1 : j_J G jm_Mo_keep d B S 12 [jr_ a0, ji_ x1, ji_ 0] [] (N, K, (j_up M y1 x1 (M a0 35)), g) Q) : j_J G jm_Mo_keep d B S 0 [jr_ a0, ji_ x1, u2] [] (N, K, M, g) Q :=
  j_aload_n d_Mo_keep_0 rfl <| j_getR d_Mo_keep_1 f_Mo_13 hk1 hg2 <| j_iload_n d_Mo_keep_4 rfl <| j_aload_n d_Mo_keep_5 rfl <| j_getI d_Mo_keep_6 f_Mo_199 hk1 <| j_iast d_Mo_keep_9 hk2 r3 r3' <| j_iconst d_Mo_keep_10 <| j_istore_n d_Mo_keep_11 rfl rfl <| k1
theorem s_Mo_keep_12 {G : j_G} {d B S N : Nat} {K : Nat → Option (Nat × Nat)} {M : Nat → Int → Int} {g : Nat → Int → Option Nat} {Q : j_O → j_S → Prop} {a0 : Nat} {x1 x2 : Int} (hk1 : K a0 = some (0, 8)) (r1 : -2147483648 ≤ x2 ∧ x2 ≤ 2147483647 := by omega) (r2 : -2147483648 ≤ (M a0 35) ∧ (M a0 35) ≤ 2147483647 := by omega) (k1 : (M a0 35) ≤ x2 → Q (.inl none) (N, K, M, g)) (k2 : x2 < (M a0 35) → j_J G jm_Mo_keep d B S 20 [jr_ a0, ji_ x1, ji_ x2] [] (N, K, M, g) Q) : j_J G jm_Mo_keep d B S 12 [jr_ a0, ji_ x1, ji_ x2] [] (N, K, M, g) Q :=
  j_iload_n d_Mo_keep_12 rfl <| j_aload_n d_Mo_keep_13 rfl <| j_getI d_Mo_keep_14 f_Mo_199 hk1 <| j_icmp_ge d_Mo_keep_17 r1 r2 (fun h => j_vreturn d_Mo_keep_43 rfl <| k1 h) k2
theorem s_Mo_keep_20 {G : j_G} {d B S N : Nat} {K : Nat → Option (Nat × Nat)} {M : Nat → Int → Int} {g : Nat → Int → Option Nat} {Q : j_O → j_S → Prop} {a0 y1 y3 n2 n3 : Nat} {x1 x2 : Int} (hk1 : K a0 = some (0, 8)) (hg2 : g a0 0 = some y1) (hg4 : g a0 36 = some y3) (hk2 : K y3 = some (1, n2)) (r5 : 0 ≤ x2 := by omega) (r5' : x2 < (n2 : Int) := by omega) (hk3 : K y1 = some (1, n3)) (r6 : 0 ≤ ((24 * x1) + x2) := by omega) (r6' : ((24 * x1) + x2) < (n3 : Int) := by omega) (k1 : j_J G jm_Mo_keep d B S 12 [jr_ a0, ji_ x1, ji_ (x2 + 1)] [] (N, K, (j_up M y1 ((24 * x1) + x2) (M y3 x2)), g) Q) : j_J G jm_Mo_keep d B S 20 [jr_ a0, ji_ x1, ji_ x2] [] (N, K, M, g) Q :=
  j_aload_n d_Mo_keep_20 rfl <| j_getR d_Mo_keep_21 f_Mo_7 hk1 hg2 <| j_bipush d_Mo_keep_24 (by decide) <| j_iload_n d_Mo_keep_26 rfl <| j_imul d_Mo_keep_27 <| j_iload_n d_Mo_keep_28 rfl <| j_iadd d_Mo_keep_29 <| j_aload_n d_Mo_keep_30 rfl <| j_getR d_Mo_keep_31 f_Mo_82 hk1 hg4 <| j_iload_n d_Mo_keep_34 rfl <| j_iald d_Mo_keep_35 hk2 r5 r5' <| j_iast d_Mo_keep_36 hk3 r6 r6' <| j_iinc d_Mo_keep_37 rfl rfl rfl <| j_goto d_Mo_keep_40 k1
theorem s_Mo_keep_43 {G : j_G} {d B S N : Nat} {K : Nat → Option (Nat × Nat)} {M : Nat → Int → Int} {g : Nat → Int → Option Nat} {Q : j_O → j_S → Prop} {a0 : Nat} {x1 x2 : Int}  (k1 : Q (.inl none) (N, K, M, g)) : j_J G jm_Mo_keep d B S 43 [jr_ a0, ji_ x1, ji_ x2] [] (N, K, M, g) Q :=
  j_vreturn d_Mo_keep_43 rfl k1
theorem s_Mo_sameParts_0 {G : j_G} {d B S N : Nat} {K : Nat → Option (Nat × Nat)} {M : Nat → Int → Int} {g : Nat → Int → Option Nat} {Q : j_O → j_S → Prop} {a0 : Nat} {x1 x2 x3 x4 x5 x6 : Int} {u7 u8 : j_V} (r1 : -2147483648 ≤ (x3 - x2) ∧ (x3 - x2) ≤ 2147483647 := by omega) (r2 : -2147483648 ≤ (x6 - x5) ∧ (x6 - x5) ≤ 2147483647 := by omega) (k1 : (x3 - x2) ≠ (x6 - x5) → j_J G jm_Mo_sameParts d B S 21 [jr_ a0, ji_ x1, ji_ x2, ji_ x3, ji_ x4, ji_ x5, ji_ x6, ji_ 0, ji_ 0] [] (N, K, M, g) Q) (k2 : (x3 - x2) = (x6 - x5) → j_J G jm_Mo_sameParts d B S 21 [jr_ a0, ji_ x1, ji_ x2, ji_ x3, ji_ x4, ji_ x5, ji_ x6, ji_ 1, ji_ 0] [] (N, K, M, g) Q) : j_J G jm_Mo_sameParts d B S 0 [jr_ a0, ji_ x1, ji_ x2, ji_ x3, ji_ x4, ji_ x5, ji_ x6, u7, u8] [] (N, K, M, g) Q :=
  j_iload_n d_Mo_sameParts_0 rfl <| j_iload_n d_Mo_sameParts_1 rfl <| j_isub d_Mo_sameParts_2 <| j_iload d_Mo_sameParts_3 rfl <| j_iload d_Mo_sameParts_5 rfl <| j_isub d_Mo_sameParts_7 <| j_icmp_ne d_Mo_sameParts_8 r1 r2 (fun h => j_iconst d_Mo_sameParts_15 <| j_istore d_Mo_sameParts_16 rfl rfl <| j_iconst d_Mo_sameParts_18 <| j_istore d_Mo_sameParts_19 rfl rfl <| k1 h) (fun h => j_iconst d_Mo_sameParts_11 <| j_goto d_Mo_sameParts_12 <| j_istore d_Mo_sameParts_16 rfl rfl <| j_iconst d_Mo_sameParts_18 <| j_istore d_Mo_sameParts_19 rfl rfl <| k2 h)
theorem s_Mo_sameParts_11 {G : j_G} {d B S N : Nat} {K : Nat → Option (Nat × Nat)} {M : Nat → Int → Int} {g : Nat → Int → Option Nat} {Q : j_O → j_S → Prop} {a0 : Nat} {x1 x2 x3 x4 x5 x6 : Int} {u7 u8 : j_V}  (k1 : j_J G jm_Mo_sameParts d B S 21 [jr_ a0, ji_ x1, ji_ x2, ji_ x3, ji_ x4, ji_ x5, ji_ x6, ji_ 1, ji_ 0] [] (N, K, M, g) Q) : j_J G jm_Mo_sameParts d B S 11 [jr_ a0, ji_ x1, ji_ x2, ji_ x3, ji_ x4, ji_ x5, ji_ x6, u7, u8] [] (N, K, M, g) Q :=
  j_iconst d_Mo_sameParts_11 <| j_goto d_Mo_sameParts_12 (j_istore d_Mo_sameParts_16 rfl rfl <| j_iconst d_Mo_sameParts_18 <| j_istore d_Mo_sameParts_19 rfl rfl <| k1)
theorem s_Mo_sameParts_15 {G : j_G} {d B S N : Nat} {K : Nat → Option (Nat × Nat)} {M : Nat → Int → Int} {g : Nat → Int → Option Nat} {Q : j_O → j_S → Prop} {a0 : Nat} {x1 x2 x3 x4 x5 x6 : Int} {u7 u8 : j_V}  (k1 : j_J G jm_Mo_sameParts d B S 21 [jr_ a0, ji_ x1, ji_ x2, ji_ x3, ji_ x4, ji_ x5, ji_ x6, ji_ 0, ji_ 0] [] (N, K, M, g) Q) : j_J G jm_Mo_sameParts d B S 15 [jr_ a0, ji_ x1, ji_ x2, ji_ x3, ji_ x4, ji_ x5, ji_ x6, u7, u8] [] (N, K, M, g) Q :=
  j_iconst d_Mo_sameParts_15 <| (j_istore d_Mo_sameParts_16 rfl rfl <| j_iconst d_Mo_sameParts_18 <| j_istore d_Mo_sameParts_19 rfl rfl <| k1)
theorem s_Mo_sameParts_16 {G : j_G} {d B S N : Nat} {K : Nat → Option (Nat × Nat)} {M : Nat → Int → Int} {g : Nat → Int → Option Nat} {Q : j_O → j_S → Prop} {a0 : Nat} {x1 x2 x3 x4 x5 x6 t0 : Int} {u7 u8 : j_V}  (k1 : j_J G jm_Mo_sameParts d B S 21 [jr_ a0, ji_ x1, ji_ x2, ji_ x3, ji_ x4, ji_ x5, ji_ x6, ji_ t0, ji_ 0] [] (N, K, M, g) Q) : j_J G jm_Mo_sameParts d B S 16 [jr_ a0, ji_ x1, ji_ x2, ji_ x3, ji_ x4, ji_ x5, ji_ x6, u7, u8] [ji_ t0] (N, K, M, g) Q :=
  j_istore d_Mo_sameParts_16 rfl rfl <| j_iconst d_Mo_sameParts_18 <| j_istore d_Mo_sameParts_19 rfl rfl <| k1
theorem s_Mo_sameParts_21 {G : j_G} {d B S N : Nat} {K : Nat → Option (Nat × Nat)} {M : Nat → Int → Int} {g : Nat → Int → Option Nat} {Q : j_O → j_S → Prop} {a0 : Nat} {x1 x2 x3 x4 x5 x6 x7 x8 : Int} (r1 : -2147483648 ≤ x8 ∧ x8 ≤ 2147483647 := by omega) (r2 : -2147483648 ≤ (x3 - x2) ∧ (x3 - x2) ≤ 2147483647 := by omega) (k1 : (x3 - x2) ≤ x8 → j_J G jm_Mo_sameParts d B S 80 [jr_ a0, ji_ x1, ji_ x2, ji_ x3, ji_ x4, ji_ x5, ji_ x6, ji_ x7, ji_ x8] [] (N, K, M, g) Q) (k2 : x8 < (x3 - x2) → j_J G jm_Mo_sameParts d B S 29 [jr_ a0, ji_ x1, ji_ x2, ji_ x3, ji_ x4, ji_ x5, ji_ x6, ji_ x7, ji_ x8] [] (N, K, M, g) Q) : j_J G jm_Mo_sameParts d B S 21 [jr_ a0, ji_ x1, ji_ x2, ji_ x3, ji_ x4, ji_ x5, ji_ x6, ji_ x7, ji_ x8] [] (N, K, M, g) Q :=
  j_iload d_Mo_sameParts_21 rfl <| j_iload_n d_Mo_sameParts_23 rfl <| j_iload_n d_Mo_sameParts_24 rfl <| j_isub d_Mo_sameParts_25 <| j_icmp_ge d_Mo_sameParts_26 r1 r2 k1 k2
theorem s_Mo_sameParts_29 {G : j_G} {d B S N : Nat} {K : Nat → Option (Nat × Nat)} {M : Nat → Int → Int} {g : Nat → Int → Option Nat} {Q : j_O → j_S → Prop} {a0 : Nat} {x1 x2 x3 x4 x5 x6 x7 x8 : Int} (r1 : -2147483648 ≤ x7 ∧ x7 ≤ 2147483647 := by omega) (k1 : x7 = 0 → j_J G jm_Mo_sameParts d B S 80 [jr_ a0, ji_ x1, ji_ x2, ji_ x3, ji_ x4, ji_ x5, ji_ x6, ji_ x7, ji_ x8] [] (N, K, M, g) Q) (k2 : x7 ≠ 0 → j_J G jm_Mo_sameParts d B S 34 [jr_ a0, ji_ x1, ji_ x2, ji_ x3, ji_ x4, ji_ x5, ji_ x6, ji_ x7, ji_ x8] [] (N, K, M, g) Q) : j_J G jm_Mo_sameParts d B S 29 [jr_ a0, ji_ x1, ji_ x2, ji_ x3, ji_ x4, ji_ x5, ji_ x6, ji_ x7, ji_ x8] [] (N, K, M, g) Q :=
  j_iload d_Mo_sameParts_29 rfl <| j_if_eq d_Mo_sameParts_31 r1 k1 k2
theorem s_Mo_sameParts_34 {G : j_G} {d B S N : Nat} {K : Nat → Option (Nat × Nat)} {M : Nat → Int → Int} {g : Nat → Int → Option Nat} {Q : j_O → j_S → Prop} {a0 y1 n2 : Nat} {x1 x2 x3 x4 x5 x6 x7 x8 : Int} (hk1 : K a0 = some (0, 8)) (hg2 : g a0 0 = some y1) (hk2 : K y1 = some (1, n2)) (r3 : 0 ≤ (((24 * x1) + x2) + x8) := by omega) (r3' : (((24 * x1) + x2) + x8) < (n2 : Int) := by omega) (r4 : 0 ≤ (((24 * x4) + x5) + x8) := by omega) (r4' : (((24 * x4) + x5) + x8) < (n2 : Int) := by omega) (r5 : -2147483648 ≤ (M y1 (((24 * x1) + x2) + x8)) ∧ (M y1 (((24 * x1) + x2) + x8)) ≤ 2147483647 := by omega) (r6 : -2147483648 ≤ (M y1 (((24 * x4) + x5) + x8)) ∧ (M y1 (((24 * x4) + x5) + x8)) ≤ 2147483647 := by omega) (k1 : (M y1 (((24 * x1) + x2) + x8)) ≠ (M y1 (((24 * x4) + x5) + x8)) → j_J G jm_Mo_sameParts d B S 21 [jr_ a0, ji_ x1, ji_ x2, ji_ x3, ji_ x4, ji_ x5, ji_ x6, ji_ 0, ji_ (x8 + 1)] [] (N, K, M, g) Q) (k2 : (M y1 (((24 * x1) + x2) + x8)) = (M y1 (((24 * x4) + x5) + x8)) → j_J G jm_Mo_sameParts d B S 21 [jr_ a0, ji_ x1, ji_ x2, ji_ x3, ji_ x4, ji_ x5, ji_ x6, ji_ 1, ji_ (x8 + 1)] [] (N, K, M, g) Q) : j_J G jm_Mo_sameParts d B S 34 [jr_ a0, ji_ x1, ji_ x2, ji_ x3, ji_ x4, ji_ x5, ji_ x6, ji_ x7, ji_ x8] [] (N, K, M, g) Q :=
  j_aload_n d_Mo_sameParts_34 rfl <| j_getR d_Mo_sameParts_35 f_Mo_7 hk1 hg2 <| j_bipush d_Mo_sameParts_38 (by decide) <| j_iload_n d_Mo_sameParts_40 rfl <| j_imul d_Mo_sameParts_41 <| j_iload_n d_Mo_sameParts_42 rfl <| j_iadd d_Mo_sameParts_43 <| j_iload d_Mo_sameParts_44 rfl <| j_iadd d_Mo_sameParts_46 <| j_iald d_Mo_sameParts_47 hk2 r3 r3' <| j_aload_n d_Mo_sameParts_48 rfl <| j_getR d_Mo_sameParts_49 f_Mo_7 hk1 hg2 <| j_bipush d_Mo_sameParts_52 (by decide) <| j_iload d_Mo_sameParts_54 rfl <| j_imul d_Mo_sameParts_56 <| j_iload d_Mo_sameParts_57 rfl <| j_iadd d_Mo_sameParts_59 <| j_iload d_Mo_sameParts_60 rfl <| j_iadd d_Mo_sameParts_62 <| j_iald d_Mo_sameParts_63 hk2 r4 r4' <| j_icmp_ne d_Mo_sameParts_64 r5 r6 (fun h => j_iconst d_Mo_sameParts_71 <| j_istore d_Mo_sameParts_72 rfl rfl <| j_iinc d_Mo_sameParts_74 rfl rfl rfl <| j_goto d_Mo_sameParts_77 <| k1 h) (fun h => j_iconst d_Mo_sameParts_67 <| j_goto d_Mo_sameParts_68 <| j_istore d_Mo_sameParts_72 rfl rfl <| j_iinc d_Mo_sameParts_74 rfl rfl rfl <| j_goto d_Mo_sameParts_77 <| k2 h)
theorem s_Mo_sameParts_67 {G : j_G} {d B S N : Nat} {K : Nat → Option (Nat × Nat)} {M : Nat → Int → Int} {g : Nat → Int → Option Nat} {Q : j_O → j_S → Prop} {a0 : Nat} {x1 x2 x3 x4 x5 x6 x7 x8 : Int}  (k1 : j_J G jm_Mo_sameParts d B S 21 [jr_ a0, ji_ x1, ji_ x2, ji_ x3, ji_ x4, ji_ x5, ji_ x6, ji_ 1, ji_ (x8 + 1)] [] (N, K, M, g) Q) : j_J G jm_Mo_sameParts d B S 67 [jr_ a0, ji_ x1, ji_ x2, ji_ x3, ji_ x4, ji_ x5, ji_ x6, ji_ x7, ji_ x8] [] (N, K, M, g) Q :=
  j_iconst d_Mo_sameParts_67 <| j_goto d_Mo_sameParts_68 (j_istore d_Mo_sameParts_72 rfl rfl <| j_iinc d_Mo_sameParts_74 rfl rfl rfl <| j_goto d_Mo_sameParts_77 <| k1)
theorem s_Mo_sameParts_71 {G : j_G} {d B S N : Nat} {K : Nat → Option (Nat × Nat)} {M : Nat → Int → Int} {g : Nat → Int → Option Nat} {Q : j_O → j_S → Prop} {a0 : Nat} {x1 x2 x3 x4 x5 x6 x7 x8 : Int}  (k1 : j_J G jm_Mo_sameParts d B S 21 [jr_ a0, ji_ x1, ji_ x2, ji_ x3, ji_ x4, ji_ x5, ji_ x6, ji_ 0, ji_ (x8 + 1)] [] (N, K, M, g) Q) : j_J G jm_Mo_sameParts d B S 71 [jr_ a0, ji_ x1, ji_ x2, ji_ x3, ji_ x4, ji_ x5, ji_ x6, ji_ x7, ji_ x8] [] (N, K, M, g) Q :=
  j_iconst d_Mo_sameParts_71 <| (j_istore d_Mo_sameParts_72 rfl rfl <| j_iinc d_Mo_sameParts_74 rfl rfl rfl <| j_goto d_Mo_sameParts_77 <| k1)
theorem s_Mo_sameParts_72 {G : j_G} {d B S N : Nat} {K : Nat → Option (Nat × Nat)} {M : Nat → Int → Int} {g : Nat → Int → Option Nat} {Q : j_O → j_S → Prop} {a0 : Nat} {x1 x2 x3 x4 x5 x6 x7 x8 t0 : Int}  (k1 : j_J G jm_Mo_sameParts d B S 21 [jr_ a0, ji_ x1, ji_ x2, ji_ x3, ji_ x4, ji_ x5, ji_ x6, ji_ t0, ji_ (x8 + 1)] [] (N, K, M, g) Q) : j_J G jm_Mo_sameParts d B S 72 [jr_ a0, ji_ x1, ji_ x2, ji_ x3, ji_ x4, ji_ x5, ji_ x6, ji_ x7, ji_ x8] [ji_ t0] (N, K, M, g) Q :=
  j_istore d_Mo_sameParts_72 rfl rfl <| j_iinc d_Mo_sameParts_74 rfl rfl rfl <| j_goto d_Mo_sameParts_77 k1
theorem s_Mo_sameParts_80 {G : j_G} {d B S N : Nat} {K : Nat → Option (Nat × Nat)} {M : Nat → Int → Int} {g : Nat → Int → Option Nat} {Q : j_O → j_S → Prop} {a0 : Nat} {x1 x2 x3 x4 x5 x6 x7 x8 : Int} (hz1 : x7 = 0 ∨ x7 = 1) (k1 : Q (.inl (some (ji_ x7))) (N, K, M, g)) : j_J G jm_Mo_sameParts d B S 80 [jr_ a0, ji_ x1, ji_ x2, ji_ x3, ji_ x4, ji_ x5, ji_ x6, ji_ x7, ji_ x8] [] (N, K, M, g) Q :=
  j_iload d_Mo_sameParts_80 rfl <| j_zreturn' d_Mo_sameParts_82 rfl hz1 k1
theorem s_Mo_tryEmit_0 {G : j_G} {d B S N : Nat} {K : Nat → Option (Nat × Nat)} {M : Nat → Int → Int} {g : Nat → Int → Option Nat} {Q : j_O → j_S → Prop} {a0 : Nat} {x1 : Int} (hk1 : K a0 = some (0, 8)) (r1 : -2147483648 ≤ (M a0 35) ∧ (M a0 35) ≤ 2147483647 := by omega) (k1 : (M a0 35) ≠ 24 → j_J G jm_Mo_tryEmit d B S 11 [jr_ a0, ji_ x1] [] (N, K, M, g) Q) (k2 : (M a0 35) = 24 → Q (.inl (some (ji_ 0))) (N, K, M, g)) : j_J G jm_Mo_tryEmit d B S 0 [jr_ a0, ji_ x1] [] (N, K, M, g) Q :=
  j_aload_n d_Mo_tryEmit_0 rfl <| j_getI d_Mo_tryEmit_1 f_Mo_199 hk1 <| j_bipush d_Mo_tryEmit_4 (by decide) <| j_icmp_ne d_Mo_tryEmit_6 r1 (by decide) k1 (fun h => j_iconst d_Mo_tryEmit_9 <| j_zreturn' d_Mo_tryEmit_10 rfl (Or.inl rfl) <| k2 h)
theorem s_Mo_tryEmit_9 {G : j_G} {d B S N : Nat} {K : Nat → Option (Nat × Nat)} {M : Nat → Int → Int} {g : Nat → Int → Option Nat} {Q : j_O → j_S → Prop} {a0 : Nat} {x1 : Int}  (k1 : Q (.inl (some (ji_ 0))) (N, K, M, g)) : j_J G jm_Mo_tryEmit d B S 9 [jr_ a0, ji_ x1] [] (N, K, M, g) Q :=
  j_iconst d_Mo_tryEmit_9 <| j_zreturn' d_Mo_tryEmit_10 rfl (Or.inl rfl) k1
theorem s_Mo_tryEmit_11 {G : j_G} {d B S N : Nat} {K : Nat → Option (Nat × Nat)} {M : Nat → Int → Int} {g : Nat → Int → Option Nat} {Q : j_O → j_S → Prop} {a0 : Nat} {x1 : Int} {q : (Nat → Int → Int) → Prop} (hk1 : K a0 = some (0, 8)) (hC : j_Ct G jm_Mo_emit d 0 0 [jr_ a0, ji_ x1] (N, K, M, g) (j_pV N K g q)) (k1 : ∀ M', q M' → j_J G jm_Mo_tryEmit (d + 1) B S 16 [jr_ a0, ji_ x1] [] (N, K, M', g) Q) : j_J G jm_Mo_tryEmit (d + 1) B S 11 [jr_ a0, ji_ x1] [] (N, K, M, g) Q :=
  j_aload_n d_Mo_tryEmit_11 rfl <| j_iload_n d_Mo_tryEmit_12 rfl <| j_aVV (as := [ji_ x1]) (rest := []) d_Mo_tryEmit_13 c_Mo_208 hk1 rfl (Nat.le_of_ble_eq_true rfl) hC k1
theorem s_Mo_tryEmit_16 {G : j_G} {d B S N : Nat} {K : Nat → Option (Nat × Nat)} {M : Nat → Int → Int} {g : Nat → Int → Option Nat} {Q : j_O → j_S → Prop} {a0 : Nat} {x1 : Int}  (k1 : Q (.inl (some (ji_ 1))) (N, K, M, g)) : j_J G jm_Mo_tryEmit d B S 16 [jr_ a0, ji_ x1] [] (N, K, M, g) Q :=
  j_iconst d_Mo_tryEmit_16 <| j_zreturn' d_Mo_tryEmit_17 rfl (Or.inr rfl) k1
theorem s_Mo_emitPart_0 {G : j_G} {d B S N : Nat} {K : Nat → Option (Nat × Nat)} {M : Nat → Int → Int} {g : Nat → Int → Option Nat} {Q : j_O → j_S → Prop} {a0 : Nat} {x1 x2 x3 : Int} {u4 u5 : j_V}  (k1 : j_J G jm_Mo_emitPart d B S 6 [jr_ a0, ji_ x1, ji_ x2, ji_ x3, ji_ 1, ji_ x2] [] (N, K, M, g) Q) : j_J G jm_Mo_emitPart d B S 0 [jr_ a0, ji_ x1, ji_ x2, ji_ x3, u4, u5] [] (N, K, M, g) Q :=
  j_iconst d_Mo_emitPart_0 <| j_istore d_Mo_emitPart_1 rfl rfl <| j_iload_n d_Mo_emitPart_3 rfl <| j_istore d_Mo_emitPart_4 rfl rfl <| k1
theorem s_Mo_emitPart_6 {G : j_G} {d B S N : Nat} {K : Nat → Option (Nat × Nat)} {M : Nat → Int → Int} {g : Nat → Int → Option Nat} {Q : j_O → j_S → Prop} {a0 : Nat} {x1 x2 x3 x4 x5 : Int} (r1 : -2147483648 ≤ x5 ∧ x5 ≤ 2147483647 := by omega) (r2 : -2147483648 ≤ x3 ∧ x3 ≤ 2147483647 := by omega) (k1 : x3 ≤ x5 → j_J G jm_Mo_emitPart d B S 41 [jr_ a0, ji_ x1, ji_ x2, ji_ x3, ji_ x4, ji_ x5] [] (N, K, M, g) Q) (k2 : x5 < x3 → j_J G jm_Mo_emitPart d B S 12 [jr_ a0, ji_ x1, ji_ x2, ji_ x3, ji_ x4, ji_ x5] [] (N, K, M, g) Q) : j_J G jm_Mo_emitPart d B S 6 [jr_ a0, ji_ x1, ji_ x2, ji_ x3, ji_ x4, ji_ x5] [] (N, K, M, g) Q :=
  j_iload d_Mo_emitPart_6 rfl <| j_iload_n d_Mo_emitPart_8 rfl <| j_icmp_ge d_Mo_emitPart_9 r1 r2 k1 k2
theorem s_Mo_emitPart_12 {G : j_G} {d B S N : Nat} {K : Nat → Option (Nat × Nat)} {M : Nat → Int → Int} {g : Nat → Int → Option Nat} {Q : j_O → j_S → Prop} {a0 : Nat} {x1 x2 x3 x4 x5 : Int} (r1 : -2147483648 ≤ x4 ∧ x4 ≤ 2147483647 := by omega) (k1 : x4 = 0 → j_J G jm_Mo_emitPart d B S 41 [jr_ a0, ji_ x1, ji_ x2, ji_ x3, ji_ x4, ji_ x5] [] (N, K, M, g) Q) (k2 : x4 ≠ 0 → j_J G jm_Mo_emitPart d B S 17 [jr_ a0, ji_ x1, ji_ x2, ji_ x3, ji_ x4, ji_ x5] [] (N, K, M, g) Q) : j_J G jm_Mo_emitPart d B S 12 [jr_ a0, ji_ x1, ji_ x2, ji_ x3, ji_ x4, ji_ x5] [] (N, K, M, g) Q :=
  j_iload d_Mo_emitPart_12 rfl <| j_if_eq d_Mo_emitPart_14 r1 k1 k2
theorem s_Mo_emitPart_17 {G : j_G} {d B S N : Nat} {K : Nat → Option (Nat × Nat)} {M : Nat → Int → Int} {g : Nat → Int → Option Nat} {Q : j_O → j_S → Prop} {a0 y1 n2 : Nat} {x1 x2 x3 x4 x5 : Int} {q : Int → (Nat → Int → Int) → Prop} (hk1 : K a0 = some (0, 8)) (hg2 : g a0 0 = some y1) (hk2 : K y1 = some (1, n2)) (r3 : 0 ≤ ((24 * x1) + x5) := by omega) (r3' : ((24 * x1) + x5) < (n2 : Int) := by omega) (hC : j_Ct G jm_Mo_tryEmit d 0 0 [jr_ a0, ji_ (M y1 ((24 * x1) + x5))] (N, K, M, g) (j_pI N K g q)) (k1 : ∀ z M', q z M' → j_J G jm_Mo_emitPart (d + 1) B S 33 [jr_ a0, ji_ x1, ji_ x2, ji_ x3, ji_ x4, ji_ x5] [ji_ z] (N, K, M', g) Q) : j_J G jm_Mo_emitPart (d + 1) B S 17 [jr_ a0, ji_ x1, ji_ x2, ji_ x3, ji_ x4, ji_ x5] [] (N, K, M, g) Q :=
  j_aload_n d_Mo_emitPart_17 rfl <| j_aload_n d_Mo_emitPart_18 rfl <| j_getR d_Mo_emitPart_19 f_Mo_7 hk1 hg2 <| j_bipush d_Mo_emitPart_22 (by decide) <| j_iload_n d_Mo_emitPart_24 rfl <| j_imul d_Mo_emitPart_25 <| j_iload d_Mo_emitPart_26 rfl <| j_iadd d_Mo_emitPart_28 <| j_iald d_Mo_emitPart_29 hk2 r3 r3' <| j_aVI (as := [ji_ (M y1 ((24 * x1) + x5))]) (rest := []) d_Mo_emitPart_30 c_Mo_214 hk1 rfl (Nat.le_of_ble_eq_true rfl) hC k1
theorem s_Mo_emitPart_33 {G : j_G} {d B S N : Nat} {K : Nat → Option (Nat × Nat)} {M : Nat → Int → Int} {g : Nat → Int → Option Nat} {Q : j_O → j_S → Prop} {a0 : Nat} {x1 x2 x3 x4 x5 t0 : Int}  (k1 : j_J G jm_Mo_emitPart d B S 6 [jr_ a0, ji_ x1, ji_ x2, ji_ x3, ji_ t0, ji_ (x5 + 1)] [] (N, K, M, g) Q) : j_J G jm_Mo_emitPart d B S 33 [jr_ a0, ji_ x1, ji_ x2, ji_ x3, ji_ x4, ji_ x5] [ji_ t0] (N, K, M, g) Q :=
  j_istore d_Mo_emitPart_33 rfl rfl <| j_iinc d_Mo_emitPart_35 rfl rfl rfl <| j_goto d_Mo_emitPart_38 k1
theorem s_Mo_emitPart_41 {G : j_G} {d B S N : Nat} {K : Nat → Option (Nat × Nat)} {M : Nat → Int → Int} {g : Nat → Int → Option Nat} {Q : j_O → j_S → Prop} {a0 : Nat} {x1 x2 x3 x4 x5 : Int} (hz1 : x4 = 0 ∨ x4 = 1) (k1 : Q (.inl (some (ji_ x4))) (N, K, M, g)) : j_J G jm_Mo_emitPart d B S 41 [jr_ a0, ji_ x1, ji_ x2, ji_ x3, ji_ x4, ji_ x5] [] (N, K, M, g) Q :=
  j_iload d_Mo_emitPart_41 rfl <| j_zreturn' d_Mo_emitPart_43 rfl hz1 k1
theorem s_Mo_mergeParts_0 {G : j_G} {d B S N : Nat} {K : Nat → Option (Nat × Nat)} {M : Nat → Int → Int} {g : Nat → Int → Option Nat} {Q : j_O → j_S → Prop} {a0 : Nat} {x1 x2 x3 x4 x5 x6 : Int} {u7 : j_V} {q : Int → (Nat → Int → Int) → Prop} (hk1 : K a0 = some (0, 8)) (hC : j_Ct G jm_Mo_sameParts d 0 0 [jr_ a0, ji_ 1, ji_ x3, ji_ x4, ji_ 0, ji_ x1, ji_ x2] (N, K, M, g) (j_pI N K g q)) (k1 : ∀ z M', q z M' → j_J G jm_Mo_mergeParts (d + 1) B S 11 [jr_ a0, ji_ x1, ji_ x2, ji_ x3, ji_ x4, ji_ x5, ji_ x6, u7] [ji_ z] (N, K, M', g) Q) : j_J G jm_Mo_mergeParts (d + 1) B S 0 [jr_ a0, ji_ x1, ji_ x2, ji_ x3, ji_ x4, ji_ x5, ji_ x6, u7] [] (N, K, M, g) Q :=
  j_aload_n d_Mo_mergeParts_0 rfl <| j_iconst d_Mo_mergeParts_1 <| j_iload_n d_Mo_mergeParts_2 rfl <| j_iload d_Mo_mergeParts_3 rfl <| j_iconst d_Mo_mergeParts_5 <| j_iload_n d_Mo_mergeParts_6 rfl <| j_iload_n d_Mo_mergeParts_7 rfl <| j_aVI (as := [ji_ 1, ji_ x3, ji_ x4, ji_ 0, ji_ x1, ji_ x2]) (rest := []) d_Mo_mergeParts_8 c_Mo_217 hk1 rfl (Nat.le_of_ble_eq_true rfl) hC k1
theorem s_Mo_mergeParts_11 {G : j_G} {d B S N : Nat} {K : Nat → Option (Nat × Nat)} {M : Nat → Int → Int} {g : Nat → Int → Option Nat} {Q : j_O → j_S → Prop} {a0 : Nat} {x1 x2 x3 x4 x5 x6 t0 : Int} {u7 : j_V} (r1 : -2147483648 ≤ t0 ∧ t0 ≤ 2147483647 := by omega) (k1 : t0 = 0 → j_J G jm_Mo_mergeParts d B S 32 [jr_ a0, ji_ x1, ji_ x2, ji_ x3, ji_ x4, ji_ x5, ji_ x6, u7] [] (N, K, M, g) Q) (k2 : t0 ≠ 0 → j_J G jm_Mo_mergeParts d B S 14 [jr_ a0, ji_ x1, ji_ x2, ji_ x3, ji_ x4, ji_ x5, ji_ x6, u7] [] (N, K, M, g) Q) : j_J G jm_Mo_mergeParts d B S 11 [jr_ a0, ji_ x1, ji_ x2, ji_ x3, ji_ x4, ji_ x5, ji_ x6, u7] [ji_ t0] (N, K, M, g) Q :=
  j_if_eq d_Mo_mergeParts_11 r1 k1 k2
theorem s_Mo_mergeParts_14 {G : j_G} {d B S N : Nat} {K : Nat → Option (Nat × Nat)} {M : Nat → Int → Int} {g : Nat → Int → Option Nat} {Q : j_O → j_S → Prop} {a0 : Nat} {x1 x2 x3 x4 x5 x6 : Int} {u7 : j_V} {q : Int → (Nat → Int → Int) → Prop} (hk1 : K a0 = some (0, 8)) (hC : j_Ct G jm_Mo_emitPart d 0 0 [jr_ a0, ji_ 2, ji_ x5, ji_ x6] (N, K, M, g) (j_pI N K g q)) (k1 : ∀ z M', q z M' → j_J G jm_Mo_mergeParts (d + 1) B S 23 [jr_ a0, ji_ x1, ji_ x2, ji_ x3, ji_ x4, ji_ x5, ji_ x6, u7] [ji_ z] (N, K, M', g) Q) : j_J G jm_Mo_mergeParts (d + 1) B S 14 [jr_ a0, ji_ x1, ji_ x2, ji_ x3, ji_ x4, ji_ x5, ji_ x6, u7] [] (N, K, M, g) Q :=
  j_aload_n d_Mo_mergeParts_14 rfl <| j_iconst d_Mo_mergeParts_15 <| j_iload d_Mo_mergeParts_16 rfl <| j_iload d_Mo_mergeParts_18 rfl <| j_aVI (as := [ji_ 2, ji_ x5, ji_ x6]) (rest := []) d_Mo_mergeParts_20 c_Mo_221 hk1 rfl (Nat.le_of_ble_eq_true rfl) hC k1
theorem s_Mo_mergeParts_23 {G : j_G} {d B S N : Nat} {K : Nat → Option (Nat × Nat)} {M : Nat → Int → Int} {g : Nat → Int → Option Nat} {Q : j_O → j_S → Prop} {a0 : Nat} {x1 x2 x3 x4 x5 x6 t0 : Int} {u7 : j_V} (r1 : -2147483648 ≤ t0 ∧ t0 ≤ 2147483647 := by omega) (k1 : t0 = 0 → Q (.inl (some (ji_ (-1)))) (N, K, M, g)) (k2 : t0 ≠ 0 → Q (.inl (some (ji_ 0))) (N, K, M, g)) : j_J G jm_Mo_mergeParts d B S 23 [jr_ a0, ji_ x1, ji_ x2, ji_ x3, ji_ x4, ji_ x5, ji_ x6, u7] [ji_ t0] (N, K, M, g) Q :=
  j_if_eq d_Mo_mergeParts_23 r1 (fun h => j_iconst d_Mo_mergeParts_30 <| j_ireturn d_Mo_mergeParts_31 rfl <| k1 h) (fun h => j_iconst d_Mo_mergeParts_26 <| j_goto d_Mo_mergeParts_27 <| j_ireturn d_Mo_mergeParts_31 rfl <| k2 h)
theorem s_Mo_mergeParts_26 {G : j_G} {d B S N : Nat} {K : Nat → Option (Nat × Nat)} {M : Nat → Int → Int} {g : Nat → Int → Option Nat} {Q : j_O → j_S → Prop} {a0 : Nat} {x1 x2 x3 x4 x5 x6 : Int} {u7 : j_V}  (k1 : Q (.inl (some (ji_ 0))) (N, K, M, g)) : j_J G jm_Mo_mergeParts d B S 26 [jr_ a0, ji_ x1, ji_ x2, ji_ x3, ji_ x4, ji_ x5, ji_ x6, u7] [] (N, K, M, g) Q :=
  j_iconst d_Mo_mergeParts_26 <| j_goto d_Mo_mergeParts_27 (j_ireturn d_Mo_mergeParts_31 rfl <| k1)
theorem s_Mo_mergeParts_30 {G : j_G} {d B S N : Nat} {K : Nat → Option (Nat × Nat)} {M : Nat → Int → Int} {g : Nat → Int → Option Nat} {Q : j_O → j_S → Prop} {a0 : Nat} {x1 x2 x3 x4 x5 x6 : Int} {u7 : j_V}  (k1 : Q (.inl (some (ji_ (-1)))) (N, K, M, g)) : j_J G jm_Mo_mergeParts d B S 30 [jr_ a0, ji_ x1, ji_ x2, ji_ x3, ji_ x4, ji_ x5, ji_ x6, u7] [] (N, K, M, g) Q :=
  j_iconst d_Mo_mergeParts_30 <| (j_ireturn d_Mo_mergeParts_31 rfl <| k1)
theorem s_Mo_mergeParts_31 {G : j_G} {d B S N : Nat} {K : Nat → Option (Nat × Nat)} {M : Nat → Int → Int} {g : Nat → Int → Option Nat} {Q : j_O → j_S → Prop} {a0 : Nat} {x1 x2 x3 x4 x5 x6 t0 : Int} {u7 : j_V}  (k1 : Q (.inl (some (ji_ t0))) (N, K, M, g)) : j_J G jm_Mo_mergeParts d B S 31 [jr_ a0, ji_ x1, ji_ x2, ji_ x3, ji_ x4, ji_ x5, ji_ x6, u7] [ji_ t0] (N, K, M, g) Q :=
  j_ireturn d_Mo_mergeParts_31 rfl k1
theorem s_Mo_mergeParts_32 {G : j_G} {d B S N : Nat} {K : Nat → Option (Nat × Nat)} {M : Nat → Int → Int} {g : Nat → Int → Option Nat} {Q : j_O → j_S → Prop} {a0 : Nat} {x1 x2 x3 x4 x5 x6 : Int} {u7 : j_V} {q : Int → (Nat → Int → Int) → Prop} (hk1 : K a0 = some (0, 8)) (hC : j_Ct G jm_Mo_sameParts d 0 0 [jr_ a0, ji_ 2, ji_ x5, ji_ x6, ji_ 0, ji_ x1, ji_ x2] (N, K, M, g) (j_pI N K g q)) (k1 : ∀ z M', q z M' → j_J G jm_Mo_mergeParts (d + 1) B S 44 [jr_ a0, ji_ x1, ji_ x2, ji_ x3, ji_ x4, ji_ x5, ji_ x6, u7] [ji_ z] (N, K, M', g) Q) : j_J G jm_Mo_mergeParts (d + 1) B S 32 [jr_ a0, ji_ x1, ji_ x2, ji_ x3, ji_ x4, ji_ x5, ji_ x6, u7] [] (N, K, M, g) Q :=
  j_aload_n d_Mo_mergeParts_32 rfl <| j_iconst d_Mo_mergeParts_33 <| j_iload d_Mo_mergeParts_34 rfl <| j_iload d_Mo_mergeParts_36 rfl <| j_iconst d_Mo_mergeParts_38 <| j_iload_n d_Mo_mergeParts_39 rfl <| j_iload_n d_Mo_mergeParts_40 rfl <| j_aVI (as := [ji_ 2, ji_ x5, ji_ x6, ji_ 0, ji_ x1, ji_ x2]) (rest := []) d_Mo_mergeParts_41 c_Mo_217 hk1 rfl (Nat.le_of_ble_eq_true rfl) hC k1
theorem s_Mo_mergeParts_44 {G : j_G} {d B S N : Nat} {K : Nat → Option (Nat × Nat)} {M : Nat → Int → Int} {g : Nat → Int → Option Nat} {Q : j_O → j_S → Prop} {a0 : Nat} {x1 x2 x3 x4 x5 x6 t0 : Int} {u7 : j_V} (r1 : -2147483648 ≤ t0 ∧ t0 ≤ 2147483647 := by omega) (k1 : t0 ≠ 0 → j_J G jm_Mo_mergeParts d B S 63 [jr_ a0, ji_ x1, ji_ x2, ji_ x3, ji_ x4, ji_ x5, ji_ x6, u7] [] (N, K, M, g) Q) (k2 : t0 = 0 → j_J G jm_Mo_mergeParts d B S 47 [jr_ a0, ji_ x1, ji_ x2, ji_ x3, ji_ x4, ji_ x5, ji_ x6, u7] [] (N, K, M, g) Q) : j_J G jm_Mo_mergeParts d B S 44 [jr_ a0, ji_ x1, ji_ x2, ji_ x3, ji_ x4, ji_ x5, ji_ x6, u7] [ji_ t0] (N, K, M, g) Q :=
  j_if_ne d_Mo_mergeParts_44 r1 k1 k2
theorem s_Mo_mergeParts_47 {G : j_G} {d B S N : Nat} {K : Nat → Option (Nat × Nat)} {M : Nat → Int → Int} {g : Nat → Int → Option Nat} {Q : j_O → j_S → Prop} {a0 : Nat} {x1 x2 x3 x4 x5 x6 : Int} {u7 : j_V} {q : Int → (Nat → Int → Int) → Prop} (hk1 : K a0 = some (0, 8)) (hC : j_Ct G jm_Mo_sameParts d 0 0 [jr_ a0, ji_ 2, ji_ x5, ji_ x6, ji_ 1, ji_ x3, ji_ x4] (N, K, M, g) (j_pI N K g q)) (k1 : ∀ z M', q z M' → j_J G jm_Mo_mergeParts (d + 1) B S 60 [jr_ a0, ji_ x1, ji_ x2, ji_ x3, ji_ x4, ji_ x5, ji_ x6, u7] [ji_ z] (N, K, M', g) Q) : j_J G jm_Mo_mergeParts (d + 1) B S 47 [jr_ a0, ji_ x1, ji_ x2, ji_ x3, ji_ x4, ji_ x5, ji_ x6, u7] [] (N, K, M, g) Q :=
  j_aload_n d_Mo_mergeParts_47 rfl <| j_iconst d_Mo_mergeParts_48 <| j_iload d_Mo_mergeParts_49 rfl <| j_iload d_Mo_mergeParts_51 rfl <| j_iconst d_Mo_mergeParts_53 <| j_iload_n d_Mo_mergeParts_54 rfl <| j_iload d_Mo_mergeParts_55 rfl <| j_aVI (as := [ji_ 2, ji_ x5, ji_ x6, ji_ 1, ji_ x3, ji_ x4]) (rest := []) d_Mo_mergeParts_57 c_Mo_217 hk1 rfl (Nat.le_of_ble_eq_true rfl) hC k1
theorem s_Mo_mergeParts_60 {G : j_G} {d B S N : Nat} {K : Nat → Option (Nat × Nat)} {M : Nat → Int → Int} {g : Nat → Int → Option Nat} {Q : j_O → j_S → Prop} {a0 : Nat} {x1 x2 x3 x4 x5 x6 t0 : Int} {u7 : j_V} (r1 : -2147483648 ≤ t0 ∧ t0 ≤ 2147483647 := by omega) (k1 : t0 = 0 → j_J G jm_Mo_mergeParts d B S 80 [jr_ a0, ji_ x1, ji_ x2, ji_ x3, ji_ x4, ji_ x5, ji_ x6, u7] [] (N, K, M, g) Q) (k2 : t0 ≠ 0 → j_J G jm_Mo_mergeParts d B S 63 [jr_ a0, ji_ x1, ji_ x2, ji_ x3, ji_ x4, ji_ x5, ji_ x6, u7] [] (N, K, M, g) Q) : j_J G jm_Mo_mergeParts d B S 60 [jr_ a0, ji_ x1, ji_ x2, ji_ x3, ji_ x4, ji_ x5, ji_ x6, u7] [ji_ t0] (N, K, M, g) Q :=
  j_if_eq d_Mo_mergeParts_60 r1 k1 k2
theorem s_Mo_mergeParts_63 {G : j_G} {d B S N : Nat} {K : Nat → Option (Nat × Nat)} {M : Nat → Int → Int} {g : Nat → Int → Option Nat} {Q : j_O → j_S → Prop} {a0 : Nat} {x1 x2 x3 x4 x5 x6 : Int} {u7 : j_V} {q : Int → (Nat → Int → Int) → Prop} (hk1 : K a0 = some (0, 8)) (hC : j_Ct G jm_Mo_emitPart d 0 0 [jr_ a0, ji_ 1, ji_ x3, ji_ x4] (N, K, M, g) (j_pI N K g q)) (k1 : ∀ z M', q z M' → j_J G jm_Mo_mergeParts (d + 1) B S 71 [jr_ a0, ji_ x1, ji_ x2, ji_ x3, ji_ x4, ji_ x5, ji_ x6, u7] [ji_ z] (N, K, M', g) Q) : j_J G jm_Mo_mergeParts (d + 1) B S 63 [jr_ a0, ji_ x1, ji_ x2, ji_ x3, ji_ x4, ji_ x5, ji_ x6, u7] [] (N, K, M, g) Q :=
  j_aload_n d_Mo_mergeParts_63 rfl <| j_iconst d_Mo_mergeParts_64 <| j_iload_n d_Mo_mergeParts_65 rfl <| j_iload d_Mo_mergeParts_66 rfl <| j_aVI (as := [ji_ 1, ji_ x3, ji_ x4]) (rest := []) d_Mo_mergeParts_68 c_Mo_221 hk1 rfl (Nat.le_of_ble_eq_true rfl) hC k1
theorem s_Mo_mergeParts_71 {G : j_G} {d B S N : Nat} {K : Nat → Option (Nat × Nat)} {M : Nat → Int → Int} {g : Nat → Int → Option Nat} {Q : j_O → j_S → Prop} {a0 : Nat} {x1 x2 x3 x4 x5 x6 t0 : Int} {u7 : j_V} (r1 : -2147483648 ≤ t0 ∧ t0 ≤ 2147483647 := by omega) (k1 : t0 = 0 → Q (.inl (some (ji_ (-1)))) (N, K, M, g)) (k2 : t0 ≠ 0 → Q (.inl (some (ji_ 0))) (N, K, M, g)) : j_J G jm_Mo_mergeParts d B S 71 [jr_ a0, ji_ x1, ji_ x2, ji_ x3, ji_ x4, ji_ x5, ji_ x6, u7] [ji_ t0] (N, K, M, g) Q :=
  j_if_eq d_Mo_mergeParts_71 r1 (fun h => j_iconst d_Mo_mergeParts_78 <| j_ireturn d_Mo_mergeParts_79 rfl <| k1 h) (fun h => j_iconst d_Mo_mergeParts_74 <| j_goto d_Mo_mergeParts_75 <| j_ireturn d_Mo_mergeParts_79 rfl <| k2 h)
theorem s_Mo_mergeParts_74 {G : j_G} {d B S N : Nat} {K : Nat → Option (Nat × Nat)} {M : Nat → Int → Int} {g : Nat → Int → Option Nat} {Q : j_O → j_S → Prop} {a0 : Nat} {x1 x2 x3 x4 x5 x6 : Int} {u7 : j_V}  (k1 : Q (.inl (some (ji_ 0))) (N, K, M, g)) : j_J G jm_Mo_mergeParts d B S 74 [jr_ a0, ji_ x1, ji_ x2, ji_ x3, ji_ x4, ji_ x5, ji_ x6, u7] [] (N, K, M, g) Q :=
  j_iconst d_Mo_mergeParts_74 <| j_goto d_Mo_mergeParts_75 (j_ireturn d_Mo_mergeParts_79 rfl <| k1)
theorem s_Mo_mergeParts_78 {G : j_G} {d B S N : Nat} {K : Nat → Option (Nat × Nat)} {M : Nat → Int → Int} {g : Nat → Int → Option Nat} {Q : j_O → j_S → Prop} {a0 : Nat} {x1 x2 x3 x4 x5 x6 : Int} {u7 : j_V}  (k1 : Q (.inl (some (ji_ (-1)))) (N, K, M, g)) : j_J G jm_Mo_mergeParts d B S 78 [jr_ a0, ji_ x1, ji_ x2, ji_ x3, ji_ x4, ji_ x5, ji_ x6, u7] [] (N, K, M, g) Q :=
  j_iconst d_Mo_mergeParts_78 <| (j_ireturn d_Mo_mergeParts_79 rfl <| k1)
theorem s_Mo_mergeParts_79 {G : j_G} {d B S N : Nat} {K : Nat → Option (Nat × Nat)} {M : Nat → Int → Int} {g : Nat → Int → Option Nat} {Q : j_O → j_S → Prop} {a0 : Nat} {x1 x2 x3 x4 x5 x6 t0 : Int} {u7 : j_V}  (k1 : Q (.inl (some (ji_ t0))) (N, K, M, g)) : j_J G jm_Mo_mergeParts d B S 79 [jr_ a0, ji_ x1, ji_ x2, ji_ x3, ji_ x4, ji_ x5, ji_ x6, u7] [ji_ t0] (N, K, M, g) Q :=
  j_ireturn d_Mo_mergeParts_79 rfl k1
theorem s_Mo_mergeParts_80 {G : j_G} {d B S N : Nat} {K : Nat → Option (Nat × Nat)} {M : Nat → Int → Int} {g : Nat → Int → Option Nat} {Q : j_O → j_S → Prop} {a0 : Nat} {x1 x2 x3 x4 x5 x6 : Int} {u7 : j_V} {q : Int → (Nat → Int → Int) → Prop} (hk1 : K a0 = some (0, 8)) (hC : j_Ct G jm_Mo_tryEmit d 0 0 [jr_ a0, ji_ 60] (N, K, M, g) (j_pI N K g q)) (k1 : ∀ z M', q z M' → j_J G jm_Mo_mergeParts (d + 1) B S 86 [jr_ a0, ji_ x1, ji_ x2, ji_ x3, ji_ x4, ji_ x5, ji_ x6, u7] [ji_ z] (N, K, M', g) Q) : j_J G jm_Mo_mergeParts (d + 1) B S 80 [jr_ a0, ji_ x1, ji_ x2, ji_ x3, ji_ x4, ji_ x5, ji_ x6, u7] [] (N, K, M, g) Q :=
  j_aload_n d_Mo_mergeParts_80 rfl <| j_bipush d_Mo_mergeParts_81 (by decide) <| j_aVI (as := [ji_ 60]) (rest := []) d_Mo_mergeParts_83 c_Mo_214 hk1 rfl (Nat.le_of_ble_eq_true rfl) hC k1
theorem s_Mo_mergeParts_86 {G : j_G} {d B S N : Nat} {K : Nat → Option (Nat × Nat)} {M : Nat → Int → Int} {g : Nat → Int → Option Nat} {Q : j_O → j_S → Prop} {a0 : Nat} {x1 x2 x3 x4 x5 x6 t0 : Int} {u7 : j_V} (r1 : -2147483648 ≤ t0 ∧ t0 ≤ 2147483647 := by omega) (k1 : t0 = 0 → j_J G jm_Mo_mergeParts d B S 135 [jr_ a0, ji_ x1, ji_ x2, ji_ x3, ji_ x4, ji_ x5, ji_ x6, u7] [ji_ 0] (N, K, M, g) Q) (k2 : t0 ≠ 0 → j_J G jm_Mo_mergeParts d B S 89 [jr_ a0, ji_ x1, ji_ x2, ji_ x3, ji_ x4, ji_ x5, ji_ x6, u7] [] (N, K, M, g) Q) : j_J G jm_Mo_mergeParts d B S 86 [jr_ a0, ji_ x1, ji_ x2, ji_ x3, ji_ x4, ji_ x5, ji_ x6, u7] [ji_ t0] (N, K, M, g) Q :=
  j_if_eq d_Mo_mergeParts_86 r1 (fun h => j_iconst d_Mo_mergeParts_134 <| k1 h) k2
theorem s_Mo_mergeParts_89 {G : j_G} {d B S N : Nat} {K : Nat → Option (Nat × Nat)} {M : Nat → Int → Int} {g : Nat → Int → Option Nat} {Q : j_O → j_S → Prop} {a0 : Nat} {x1 x2 x3 x4 x5 x6 : Int} {u7 : j_V} {q : Int → (Nat → Int → Int) → Prop} (hk1 : K a0 = some (0, 8)) (hC : j_Ct G jm_Mo_emitPart d 0 0 [jr_ a0, ji_ 1, ji_ x3, ji_ x4] (N, K, M, g) (j_pI N K g q)) (k1 : ∀ z M', q z M' → j_J G jm_Mo_mergeParts (d + 1) B S 97 [jr_ a0, ji_ x1, ji_ x2, ji_ x3, ji_ x4, ji_ x5, ji_ x6, u7] [ji_ z] (N, K, M', g) Q) : j_J G jm_Mo_mergeParts (d + 1) B S 89 [jr_ a0, ji_ x1, ji_ x2, ji_ x3, ji_ x4, ji_ x5, ji_ x6, u7] [] (N, K, M, g) Q :=
  j_aload_n d_Mo_mergeParts_89 rfl <| j_iconst d_Mo_mergeParts_90 <| j_iload_n d_Mo_mergeParts_91 rfl <| j_iload d_Mo_mergeParts_92 rfl <| j_aVI (as := [ji_ 1, ji_ x3, ji_ x4]) (rest := []) d_Mo_mergeParts_94 c_Mo_221 hk1 rfl (Nat.le_of_ble_eq_true rfl) hC k1
theorem s_Mo_mergeParts_97 {G : j_G} {d B S N : Nat} {K : Nat → Option (Nat × Nat)} {M : Nat → Int → Int} {g : Nat → Int → Option Nat} {Q : j_O → j_S → Prop} {a0 : Nat} {x1 x2 x3 x4 x5 x6 t0 : Int} {u7 : j_V} (r1 : -2147483648 ≤ t0 ∧ t0 ≤ 2147483647 := by omega) (k1 : t0 = 0 → j_J G jm_Mo_mergeParts d B S 135 [jr_ a0, ji_ x1, ji_ x2, ji_ x3, ji_ x4, ji_ x5, ji_ x6, u7] [ji_ 0] (N, K, M, g) Q) (k2 : t0 ≠ 0 → j_J G jm_Mo_mergeParts d B S 100 [jr_ a0, ji_ x1, ji_ x2, ji_ x3, ji_ x4, ji_ x5, ji_ x6, u7] [] (N, K, M, g) Q) : j_J G jm_Mo_mergeParts d B S 97 [jr_ a0, ji_ x1, ji_ x2, ji_ x3, ji_ x4, ji_ x5, ji_ x6, u7] [ji_ t0] (N, K, M, g) Q :=
  j_if_eq d_Mo_mergeParts_97 r1 (fun h => j_iconst d_Mo_mergeParts_134 <| k1 h) k2
theorem s_Mo_mergeParts_100 {G : j_G} {d B S N : Nat} {K : Nat → Option (Nat × Nat)} {M : Nat → Int → Int} {g : Nat → Int → Option Nat} {Q : j_O → j_S → Prop} {a0 : Nat} {x1 x2 x3 x4 x5 x6 : Int} {u7 : j_V} {q : Int → (Nat → Int → Int) → Prop} (hk1 : K a0 = some (0, 8)) (hC : j_Ct G jm_Mo_tryEmit d 0 0 [jr_ a0, ji_ 61] (N, K, M, g) (j_pI N K g q)) (k1 : ∀ z M', q z M' → j_J G jm_Mo_mergeParts (d + 1) B S 106 [jr_ a0, ji_ x1, ji_ x2, ji_ x3, ji_ x4, ji_ x5, ji_ x6, u7] [ji_ z] (N, K, M', g) Q) : j_J G jm_Mo_mergeParts (d + 1) B S 100 [jr_ a0, ji_ x1, ji_ x2, ji_ x3, ji_ x4, ji_ x5, ji_ x6, u7] [] (N, K, M, g) Q :=
  j_aload_n d_Mo_mergeParts_100 rfl <| j_bipush d_Mo_mergeParts_101 (by decide) <| j_aVI (as := [ji_ 61]) (rest := []) d_Mo_mergeParts_103 c_Mo_214 hk1 rfl (Nat.le_of_ble_eq_true rfl) hC k1
theorem s_Mo_mergeParts_106 {G : j_G} {d B S N : Nat} {K : Nat → Option (Nat × Nat)} {M : Nat → Int → Int} {g : Nat → Int → Option Nat} {Q : j_O → j_S → Prop} {a0 : Nat} {x1 x2 x3 x4 x5 x6 t0 : Int} {u7 : j_V} (r1 : -2147483648 ≤ t0 ∧ t0 ≤ 2147483647 := by omega) (k1 : t0 = 0 → j_J G jm_Mo_mergeParts d B S 135 [jr_ a0, ji_ x1, ji_ x2, ji_ x3, ji_ x4, ji_ x5, ji_ x6, u7] [ji_ 0] (N, K, M, g) Q) (k2 : t0 ≠ 0 → j_J G jm_Mo_mergeParts d B S 109 [jr_ a0, ji_ x1, ji_ x2, ji_ x3, ji_ x4, ji_ x5, ji_ x6, u7] [] (N, K, M, g) Q) : j_J G jm_Mo_mergeParts d B S 106 [jr_ a0, ji_ x1, ji_ x2, ji_ x3, ji_ x4, ji_ x5, ji_ x6, u7] [ji_ t0] (N, K, M, g) Q :=
  j_if_eq d_Mo_mergeParts_106 r1 (fun h => j_iconst d_Mo_mergeParts_134 <| k1 h) k2
theorem s_Mo_mergeParts_109 {G : j_G} {d B S N : Nat} {K : Nat → Option (Nat × Nat)} {M : Nat → Int → Int} {g : Nat → Int → Option Nat} {Q : j_O → j_S → Prop} {a0 : Nat} {x1 x2 x3 x4 x5 x6 : Int} {u7 : j_V} {q : Int → (Nat → Int → Int) → Prop} (hk1 : K a0 = some (0, 8)) (hC : j_Ct G jm_Mo_emitPart d 0 0 [jr_ a0, ji_ 2, ji_ x5, ji_ x6] (N, K, M, g) (j_pI N K g q)) (k1 : ∀ z M', q z M' → j_J G jm_Mo_mergeParts (d + 1) B S 118 [jr_ a0, ji_ x1, ji_ x2, ji_ x3, ji_ x4, ji_ x5, ji_ x6, u7] [ji_ z] (N, K, M', g) Q) : j_J G jm_Mo_mergeParts (d + 1) B S 109 [jr_ a0, ji_ x1, ji_ x2, ji_ x3, ji_ x4, ji_ x5, ji_ x6, u7] [] (N, K, M, g) Q :=
  j_aload_n d_Mo_mergeParts_109 rfl <| j_iconst d_Mo_mergeParts_110 <| j_iload d_Mo_mergeParts_111 rfl <| j_iload d_Mo_mergeParts_113 rfl <| j_aVI (as := [ji_ 2, ji_ x5, ji_ x6]) (rest := []) d_Mo_mergeParts_115 c_Mo_221 hk1 rfl (Nat.le_of_ble_eq_true rfl) hC k1
theorem s_Mo_mergeParts_118 {G : j_G} {d B S N : Nat} {K : Nat → Option (Nat × Nat)} {M : Nat → Int → Int} {g : Nat → Int → Option Nat} {Q : j_O → j_S → Prop} {a0 : Nat} {x1 x2 x3 x4 x5 x6 t0 : Int} {u7 : j_V} (r1 : -2147483648 ≤ t0 ∧ t0 ≤ 2147483647 := by omega) (k1 : t0 = 0 → j_J G jm_Mo_mergeParts d B S 135 [jr_ a0, ji_ x1, ji_ x2, ji_ x3, ji_ x4, ji_ x5, ji_ x6, u7] [ji_ 0] (N, K, M, g) Q) (k2 : t0 ≠ 0 → j_J G jm_Mo_mergeParts d B S 121 [jr_ a0, ji_ x1, ji_ x2, ji_ x3, ji_ x4, ji_ x5, ji_ x6, u7] [] (N, K, M, g) Q) : j_J G jm_Mo_mergeParts d B S 118 [jr_ a0, ji_ x1, ji_ x2, ji_ x3, ji_ x4, ji_ x5, ji_ x6, u7] [ji_ t0] (N, K, M, g) Q :=
  j_if_eq d_Mo_mergeParts_118 r1 (fun h => j_iconst d_Mo_mergeParts_134 <| k1 h) k2
theorem s_Mo_mergeParts_121 {G : j_G} {d B S N : Nat} {K : Nat → Option (Nat × Nat)} {M : Nat → Int → Int} {g : Nat → Int → Option Nat} {Q : j_O → j_S → Prop} {a0 : Nat} {x1 x2 x3 x4 x5 x6 : Int} {u7 : j_V} {q : Int → (Nat → Int → Int) → Prop} (hk1 : K a0 = some (0, 8)) (hC : j_Ct G jm_Mo_tryEmit d 0 0 [jr_ a0, ji_ 62] (N, K, M, g) (j_pI N K g q)) (k1 : ∀ z M', q z M' → j_J G jm_Mo_mergeParts (d + 1) B S 127 [jr_ a0, ji_ x1, ji_ x2, ji_ x3, ji_ x4, ji_ x5, ji_ x6, u7] [ji_ z] (N, K, M', g) Q) : j_J G jm_Mo_mergeParts (d + 1) B S 121 [jr_ a0, ji_ x1, ji_ x2, ji_ x3, ji_ x4, ji_ x5, ji_ x6, u7] [] (N, K, M, g) Q :=
  j_aload_n d_Mo_mergeParts_121 rfl <| j_bipush d_Mo_mergeParts_122 (by decide) <| j_aVI (as := [ji_ 62]) (rest := []) d_Mo_mergeParts_124 c_Mo_214 hk1 rfl (Nat.le_of_ble_eq_true rfl) hC k1
theorem s_Mo_mergeParts_127 {G : j_G} {d B S N : Nat} {K : Nat → Option (Nat × Nat)} {M : Nat → Int → Int} {g : Nat → Int → Option Nat} {Q : j_O → j_S → Prop} {a0 : Nat} {x1 x2 x3 x4 x5 x6 t0 : Int} {u7 : j_V} (r1 : -2147483648 ≤ t0 ∧ t0 ≤ 2147483647 := by omega) (k1 : t0 = 0 → j_J G jm_Mo_mergeParts d B S 135 [jr_ a0, ji_ x1, ji_ x2, ji_ x3, ji_ x4, ji_ x5, ji_ x6, u7] [ji_ 0] (N, K, M, g) Q) (k2 : t0 ≠ 0 → j_J G jm_Mo_mergeParts d B S 135 [jr_ a0, ji_ x1, ji_ x2, ji_ x3, ji_ x4, ji_ x5, ji_ x6, u7] [ji_ 1] (N, K, M, g) Q) : j_J G jm_Mo_mergeParts d B S 127 [jr_ a0, ji_ x1, ji_ x2, ji_ x3, ji_ x4, ji_ x5, ji_ x6, u7] [ji_ t0] (N, K, M, g) Q :=
  j_if_eq d_Mo_mergeParts_127 r1 (fun h => j_iconst d_Mo_mergeParts_134 <| k1 h) (fun h => j_iconst d_Mo_mergeParts_130 <| j_goto d_Mo_mergeParts_131 <| k2 h)
theorem s_Mo_mergeParts_130 {G : j_G} {d B S N : Nat} {K : Nat → Option (Nat × Nat)} {M : Nat → Int → Int} {g : Nat → Int → Option Nat} {Q : j_O → j_S → Prop} {a0 : Nat} {x1 x2 x3 x4 x5 x6 : Int} {u7 : j_V}  (k1 : j_J G jm_Mo_mergeParts d B S 135 [jr_ a0, ji_ x1, ji_ x2, ji_ x3, ji_ x4, ji_ x5, ji_ x6, u7] [ji_ 1] (N, K, M, g) Q) : j_J G jm_Mo_mergeParts d B S 130 [jr_ a0, ji_ x1, ji_ x2, ji_ x3, ji_ x4, ji_ x5, ji_ x6, u7] [] (N, K, M, g) Q :=
  j_iconst d_Mo_mergeParts_130 <| j_goto d_Mo_mergeParts_131 k1
theorem s_Mo_mergeParts_134 {G : j_G} {d B S N : Nat} {K : Nat → Option (Nat × Nat)} {M : Nat → Int → Int} {g : Nat → Int → Option Nat} {Q : j_O → j_S → Prop} {a0 : Nat} {x1 x2 x3 x4 x5 x6 : Int} {u7 : j_V}  (k1 : j_J G jm_Mo_mergeParts d B S 135 [jr_ a0, ji_ x1, ji_ x2, ji_ x3, ji_ x4, ji_ x5, ji_ x6, u7] [ji_ 0] (N, K, M, g) Q) : j_J G jm_Mo_mergeParts d B S 134 [jr_ a0, ji_ x1, ji_ x2, ji_ x3, ji_ x4, ji_ x5, ji_ x6, u7] [] (N, K, M, g) Q :=
  j_iconst d_Mo_mergeParts_134 <| k1
theorem s_Mo_mergeParts_135 {G : j_G} {d B S N : Nat} {K : Nat → Option (Nat × Nat)} {M : Nat → Int → Int} {g : Nat → Int → Option Nat} {Q : j_O → j_S → Prop} {a0 : Nat} {x1 x2 x3 x4 x5 x6 t0 : Int} {u7 : j_V} (r1 : -2147483648 ≤ t0 ∧ t0 ≤ 2147483647 := by omega) (k1 : t0 = 0 → Q (.inl (some (ji_ (-1)))) (N, K, M, g)) (k2 : t0 ≠ 0 → Q (.inl (some (ji_ 1))) (N, K, M, g)) : j_J G jm_Mo_mergeParts d B S 135 [jr_ a0, ji_ x1, ji_ x2, ji_ x3, ji_ x4, ji_ x5, ji_ x6, u7] [ji_ t0] (N, K, M, g) Q :=
  j_istore d_Mo_mergeParts_135 rfl rfl <| j_iload d_Mo_mergeParts_137 rfl <| j_if_eq d_Mo_mergeParts_139 r1 (fun h => j_iconst d_Mo_mergeParts_146 <| j_ireturn d_Mo_mergeParts_147 rfl <| k1 h) (fun h => j_iconst d_Mo_mergeParts_142 <| j_goto d_Mo_mergeParts_143 <| j_ireturn d_Mo_mergeParts_147 rfl <| k2 h)
theorem s_Mo_mergeParts_142 {G : j_G} {d B S N : Nat} {K : Nat → Option (Nat × Nat)} {M : Nat → Int → Int} {g : Nat → Int → Option Nat} {Q : j_O → j_S → Prop} {a0 : Nat} {x1 x2 x3 x4 x5 x6 x7 : Int}  (k1 : Q (.inl (some (ji_ 1))) (N, K, M, g)) : j_J G jm_Mo_mergeParts d B S 142 [jr_ a0, ji_ x1, ji_ x2, ji_ x3, ji_ x4, ji_ x5, ji_ x6, ji_ x7] [] (N, K, M, g) Q :=
  j_iconst d_Mo_mergeParts_142 <| j_goto d_Mo_mergeParts_143 (j_ireturn d_Mo_mergeParts_147 rfl <| k1)
theorem s_Mo_mergeParts_146 {G : j_G} {d B S N : Nat} {K : Nat → Option (Nat × Nat)} {M : Nat → Int → Int} {g : Nat → Int → Option Nat} {Q : j_O → j_S → Prop} {a0 : Nat} {x1 x2 x3 x4 x5 x6 x7 : Int}  (k1 : Q (.inl (some (ji_ (-1)))) (N, K, M, g)) : j_J G jm_Mo_mergeParts d B S 146 [jr_ a0, ji_ x1, ji_ x2, ji_ x3, ji_ x4, ji_ x5, ji_ x6, ji_ x7] [] (N, K, M, g) Q :=
  j_iconst d_Mo_mergeParts_146 <| (j_ireturn d_Mo_mergeParts_147 rfl <| k1)
theorem s_Mo_mergeParts_147 {G : j_G} {d B S N : Nat} {K : Nat → Option (Nat × Nat)} {M : Nat → Int → Int} {g : Nat → Int → Option Nat} {Q : j_O → j_S → Prop} {a0 : Nat} {x1 x2 x3 x4 x5 x6 x7 t0 : Int}  (k1 : Q (.inl (some (ji_ t0))) (N, K, M, g)) : j_J G jm_Mo_mergeParts d B S 147 [jr_ a0, ji_ x1, ji_ x2, ji_ x3, ji_ x4, ji_ x5, ji_ x6, ji_ x7] [ji_ t0] (N, K, M, g) Q :=
  j_ireturn d_Mo_mergeParts_147 rfl k1
theorem s_Mo_merge_0 {G : j_G} {d B S N : Nat} {K : Nat → Option (Nat × Nat)} {M : Nat → Int → Int} {g : Nat → Int → Option Nat} {Q : j_O → j_S → Prop} {a0 : Nat} {u1 u2 u3 u4 u5 u6 u7 : j_V} {q : Int → (Nat → Int → Int) → Prop} (hk1 : K a0 = some (0, 8)) (hC : j_Ct G jm_Mo_allLetters d 0 0 [jr_ a0, ji_ 0] (N, K, M, g) (j_pI N K g q)) (k1 : ∀ z M', q z M' → j_J G jm_Mo_merge (d + 1) B S 5 [jr_ a0, u1, u2, u3, u4, u5, u6, u7] [ji_ z] (N, K, M', g) Q) : j_J G jm_Mo_merge (d + 1) B S 0 [jr_ a0, u1, u2, u3, u4, u5, u6, u7] [] (N, K, M, g) Q :=
  j_aload_n d_Mo_merge_0 rfl <| j_iconst d_Mo_merge_1 <| j_aVI (as := [ji_ 0]) (rest := []) d_Mo_merge_2 c_Mo_124 hk1 rfl (Nat.le_of_ble_eq_true rfl) hC k1
theorem s_Mo_merge_5 {G : j_G} {d B S N : Nat} {K : Nat → Option (Nat × Nat)} {M : Nat → Int → Int} {g : Nat → Int → Option Nat} {Q : j_O → j_S → Prop} {a0 : Nat} {t0 : Int} {u1 u2 u3 u4 u5 u6 u7 : j_V} (r1 : -2147483648 ≤ t0 ∧ t0 ≤ 2147483647 := by omega) (k1 : t0 = 0 → Q (.inl (some (ji_ (-3)))) (N, K, M, g)) (k2 : t0 ≠ 0 → j_J G jm_Mo_merge d B S 8 [jr_ a0, u1, u2, u3, u4, u5, u6, u7] [] (N, K, M, g) Q) : j_J G jm_Mo_merge d B S 5 [jr_ a0, u1, u2, u3, u4, u5, u6, u7] [ji_ t0] (N, K, M, g) Q :=
  j_if_eq d_Mo_merge_5 r1 (fun h => j_bipush d_Mo_merge_24 (by decide) <| j_ireturn d_Mo_merge_26 rfl <| k1 h) k2
theorem s_Mo_merge_8 {G : j_G} {d B S N : Nat} {K : Nat → Option (Nat × Nat)} {M : Nat → Int → Int} {g : Nat → Int → Option Nat} {Q : j_O → j_S → Prop} {a0 : Nat} {u1 u2 u3 u4 u5 u6 u7 : j_V} {q : Int → (Nat → Int → Int) → Prop} (hk1 : K a0 = some (0, 8)) (hC : j_Ct G jm_Mo_allLetters d 0 0 [jr_ a0, ji_ 1] (N, K, M, g) (j_pI N K g q)) (k1 : ∀ z M', q z M' → j_J G jm_Mo_merge (d + 1) B S 13 [jr_ a0, u1, u2, u3, u4, u5, u6, u7] [ji_ z] (N, K, M', g) Q) : j_J G jm_Mo_merge (d + 1) B S 8 [jr_ a0, u1, u2, u3, u4, u5, u6, u7] [] (N, K, M, g) Q :=
  j_aload_n d_Mo_merge_8 rfl <| j_iconst d_Mo_merge_9 <| j_aVI (as := [ji_ 1]) (rest := []) d_Mo_merge_10 c_Mo_124 hk1 rfl (Nat.le_of_ble_eq_true rfl) hC k1
theorem s_Mo_merge_13 {G : j_G} {d B S N : Nat} {K : Nat → Option (Nat × Nat)} {M : Nat → Int → Int} {g : Nat → Int → Option Nat} {Q : j_O → j_S → Prop} {a0 : Nat} {t0 : Int} {u1 u2 u3 u4 u5 u6 u7 : j_V} (r1 : -2147483648 ≤ t0 ∧ t0 ≤ 2147483647 := by omega) (k1 : t0 = 0 → Q (.inl (some (ji_ (-3)))) (N, K, M, g)) (k2 : t0 ≠ 0 → j_J G jm_Mo_merge d B S 16 [jr_ a0, u1, u2, u3, u4, u5, u6, u7] [] (N, K, M, g) Q) : j_J G jm_Mo_merge d B S 13 [jr_ a0, u1, u2, u3, u4, u5, u6, u7] [ji_ t0] (N, K, M, g) Q :=
  j_if_eq d_Mo_merge_13 r1 (fun h => j_bipush d_Mo_merge_24 (by decide) <| j_ireturn d_Mo_merge_26 rfl <| k1 h) k2
theorem s_Mo_merge_16 {G : j_G} {d B S N : Nat} {K : Nat → Option (Nat × Nat)} {M : Nat → Int → Int} {g : Nat → Int → Option Nat} {Q : j_O → j_S → Prop} {a0 : Nat} {u1 u2 u3 u4 u5 u6 u7 : j_V} {q : Int → (Nat → Int → Int) → Prop} (hk1 : K a0 = some (0, 8)) (hC : j_Ct G jm_Mo_allLetters d 0 0 [jr_ a0, ji_ 2] (N, K, M, g) (j_pI N K g q)) (k1 : ∀ z M', q z M' → j_J G jm_Mo_merge (d + 1) B S 21 [jr_ a0, u1, u2, u3, u4, u5, u6, u7] [ji_ z] (N, K, M', g) Q) : j_J G jm_Mo_merge (d + 1) B S 16 [jr_ a0, u1, u2, u3, u4, u5, u6, u7] [] (N, K, M, g) Q :=
  j_aload_n d_Mo_merge_16 rfl <| j_iconst d_Mo_merge_17 <| j_aVI (as := [ji_ 2]) (rest := []) d_Mo_merge_18 c_Mo_124 hk1 rfl (Nat.le_of_ble_eq_true rfl) hC k1
theorem s_Mo_merge_21 {G : j_G} {d B S N : Nat} {K : Nat → Option (Nat × Nat)} {M : Nat → Int → Int} {g : Nat → Int → Option Nat} {Q : j_O → j_S → Prop} {a0 : Nat} {t0 : Int} {u1 u2 u3 u4 u5 u6 u7 : j_V} (r1 : -2147483648 ≤ t0 ∧ t0 ≤ 2147483647 := by omega) (k1 : t0 ≠ 0 → j_J G jm_Mo_merge d B S 27 [jr_ a0, u1, u2, u3, u4, u5, u6, u7] [] (N, K, M, g) Q) (k2 : t0 = 0 → Q (.inl (some (ji_ (-3)))) (N, K, M, g)) : j_J G jm_Mo_merge d B S 21 [jr_ a0, u1, u2, u3, u4, u5, u6, u7] [ji_ t0] (N, K, M, g) Q :=
  j_if_ne d_Mo_merge_21 r1 k1 (fun h => j_bipush d_Mo_merge_24 (by decide) <| j_ireturn d_Mo_merge_26 rfl <| k2 h)
theorem s_Mo_merge_24 {G : j_G} {d B S N : Nat} {K : Nat → Option (Nat × Nat)} {M : Nat → Int → Int} {g : Nat → Int → Option Nat} {Q : j_O → j_S → Prop} {a0 : Nat} {u1 u2 u3 u4 u5 u6 u7 : j_V}  (k1 : Q (.inl (some (ji_ (-3)))) (N, K, M, g)) : j_J G jm_Mo_merge d B S 24 [jr_ a0, u1, u2, u3, u4, u5, u6, u7] [] (N, K, M, g) Q :=
  j_bipush d_Mo_merge_24 (by decide) <| j_ireturn d_Mo_merge_26 rfl k1
theorem s_Mo_merge_27 {G : j_G} {d B S N : Nat} {K : Nat → Option (Nat × Nat)} {M : Nat → Int → Int} {g : Nat → Int → Option Nat} {Q : j_O → j_S → Prop} {a0 : Nat} {u1 u2 u3 u4 u5 u6 u7 : j_V} {q : (Nat → Int → Int) → Prop} (hk1 : K a0 = some (0, 8)) (hC : j_Ct G jm_Mo_take d 0 0 [jr_ a0, ji_ 0, ji_ 2] (N, K, M, g) (j_pV N K g q)) (k1 : ∀ M', q M' → j_J G jm_Mo_merge (d + 1) B S 33 [jr_ a0, u1, u2, u3, u4, u5, u6, u7] [] (N, K, M', g) Q) : j_J G jm_Mo_merge (d + 1) B S 27 [jr_ a0, u1, u2, u3, u4, u5, u6, u7] [] (N, K, M, g) Q :=
  j_aload_n d_Mo_merge_27 rfl <| j_iconst d_Mo_merge_28 <| j_iconst d_Mo_merge_29 <| j_aVV (as := [ji_ 0, ji_ 2]) (rest := []) d_Mo_merge_30 c_Mo_127 hk1 rfl (Nat.le_of_ble_eq_true rfl) hC k1
theorem s_Mo_merge_33 {G : j_G} {d B S N : Nat} {K : Nat → Option (Nat × Nat)} {M : Nat → Int → Int} {g : Nat → Int → Option Nat} {Q : j_O → j_S → Prop} {a0 : Nat} {u1 u2 u3 u4 u5 u6 u7 : j_V} {q : (Nat → Int → Int) → Prop} (hk1 : K a0 = some (0, 8)) (hC : j_Ct G jm_Mo_compareAll d 0 0 [jr_ a0, ji_ 0] (N, K, M, g) (j_pV N K g q)) (k1 : ∀ M', q M' → j_J G jm_Mo_merge (d + 1) B S 38 [jr_ a0, u1, u2, u3, u4, u5, u6, u7] [] (N, K, M', g) Q) : j_J G jm_Mo_merge (d + 1) B S 33 [jr_ a0, u1, u2, u3, u4, u5, u6, u7] [] (N, K, M, g) Q :=
  j_aload_n d_Mo_merge_33 rfl <| j_iconst d_Mo_merge_34 <| j_aVV (as := [ji_ 0]) (rest := []) d_Mo_merge_35 c_Mo_131 hk1 rfl (Nat.le_of_ble_eq_true rfl) hC k1
theorem s_Mo_merge_38 {G : j_G} {d B S N : Nat} {K : Nat → Option (Nat × Nat)} {M : Nat → Int → Int} {g : Nat → Int → Option Nat} {Q : j_O → j_S → Prop} {a0 : Nat} {u1 u2 u3 u4 u5 u6 u7 : j_V}  (k1 : j_J G jm_Mo_merge d B S 40 [jr_ a0, ji_ 0, u2, u3, u4, u5, u6, u7] [] (N, K, M, g) Q) : j_J G jm_Mo_merge d B S 38 [jr_ a0, u1, u2, u3, u4, u5, u6, u7] [] (N, K, M, g) Q :=
  j_iconst d_Mo_merge_38 <| j_istore_n d_Mo_merge_39 rfl rfl <| k1
theorem s_Mo_merge_40 {G : j_G} {d B S N : Nat} {K : Nat → Option (Nat × Nat)} {M : Nat → Int → Int} {g : Nat → Int → Option Nat} {Q : j_O → j_S → Prop} {a0 : Nat} {x1 : Int} {u2 u3 u4 u5 u6 u7 : j_V} (hk1 : K a0 = some (0, 8)) (r1 : -2147483648 ≤ x1 ∧ x1 ≤ 2147483647 := by omega) (r2 : -2147483648 ≤ (M a0 2) ∧ (M a0 2) ≤ 2147483647 := by omega) (k1 : (M a0 2) ≤ x1 → j_J G jm_Mo_merge d B S 66 [jr_ a0, ji_ x1, u2, u3, u4, u5, u6, u7] [] (N, K, M, g) Q) (k2 : x1 < (M a0 2) → j_J G jm_Mo_merge d B S 48 [jr_ a0, ji_ x1, u2, u3, u4, u5, u6, u7] [] (N, K, M, g) Q) : j_J G jm_Mo_merge d B S 40 [jr_ a0, ji_ x1, u2, u3, u4, u5, u6, u7] [] (N, K, M, g) Q :=
  j_iload_n d_Mo_merge_40 rfl <| j_aload_n d_Mo_merge_41 rfl <| j_getI d_Mo_merge_42 f_Mo_96 hk1 <| j_icmp_ge d_Mo_merge_45 r1 r2 k1 k2
theorem s_Mo_merge_48 {G : j_G} {d B S N : Nat} {K : Nat → Option (Nat × Nat)} {M : Nat → Int → Int} {g : Nat → Int → Option Nat} {Q : j_O → j_S → Prop} {a0 y1 y3 n2 n3 : Nat} {x1 : Int} {u2 u3 u4 u5 u6 u7 : j_V} (hk1 : K a0 = some (0, 8)) (hg2 : g a0 37 = some y1) (hg4 : g a0 6 = some y3) (hk2 : K y3 = some (1, n2)) (r5 : 0 ≤ x1 := by omega) (r5' : x1 < (n2 : Int) := by omega) (hk3 : K y1 = some (1, n3)) (r6 : 0 ≤ x1 := by omega) (r6' : x1 < (n3 : Int) := by omega) (k1 : j_J G jm_Mo_merge d B S 40 [jr_ a0, ji_ (x1 + 1), u2, u3, u4, u5, u6, u7] [] (N, K, (j_up M y1 x1 (M y3 x1)), g) Q) : j_J G jm_Mo_merge d B S 48 [jr_ a0, ji_ x1, u2, u3, u4, u5, u6, u7] [] (N, K, M, g) Q :=
  j_aload_n d_Mo_merge_48 rfl <| j_getR d_Mo_merge_49 f_Mo_85 hk1 hg2 <| j_iload_n d_Mo_merge_52 rfl <| j_aload_n d_Mo_merge_53 rfl <| j_getR d_Mo_merge_54 f_Mo_22 hk1 hg4 <| j_iload_n d_Mo_merge_57 rfl <| j_iald d_Mo_merge_58 hk2 r5 r5' <| j_iast d_Mo_merge_59 hk3 r6 r6' <| j_iinc d_Mo_merge_60 rfl rfl rfl <| j_goto d_Mo_merge_63 k1
theorem s_Mo_merge_66 {G : j_G} {d B S N : Nat} {K : Nat → Option (Nat × Nat)} {M : Nat → Int → Int} {g : Nat → Int → Option Nat} {Q : j_O → j_S → Prop} {a0 : Nat} {x1 : Int} {u2 u3 u4 u5 u6 u7 : j_V} {q : (Nat → Int → Int) → Prop} (hk1 : K a0 = some (0, 8)) (hC : j_Ct G jm_Mo_take d 0 0 [jr_ a0, ji_ 0, ji_ 1] (N, K, M, g) (j_pV N K g q)) (k1 : ∀ M', q M' → j_J G jm_Mo_merge (d + 1) B S 72 [jr_ a0, ji_ x1, u2, u3, u4, u5, u6, u7] [] (N, K, M', g) Q) : j_J G jm_Mo_merge (d + 1) B S 66 [jr_ a0, ji_ x1, u2, u3, u4, u5, u6, u7] [] (N, K, M, g) Q :=
  j_aload_n d_Mo_merge_66 rfl <| j_iconst d_Mo_merge_67 <| j_iconst d_Mo_merge_68 <| j_aVV (as := [ji_ 0, ji_ 1]) (rest := []) d_Mo_merge_69 c_Mo_127 hk1 rfl (Nat.le_of_ble_eq_true rfl) hC k1
theorem s_Mo_merge_72 {G : j_G} {d B S N : Nat} {K : Nat → Option (Nat × Nat)} {M : Nat → Int → Int} {g : Nat → Int → Option Nat} {Q : j_O → j_S → Prop} {a0 : Nat} {x1 : Int} {u2 u3 u4 u5 u6 u7 : j_V} {q : (Nat → Int → Int) → Prop} (hk1 : K a0 = some (0, 8)) (hC : j_Ct G jm_Mo_compareAll d 0 0 [jr_ a0, ji_ 0] (N, K, M, g) (j_pV N K g q)) (k1 : ∀ M', q M' → j_J G jm_Mo_merge (d + 1) B S 77 [jr_ a0, ji_ x1, u2, u3, u4, u5, u6, u7] [] (N, K, M', g) Q) : j_J G jm_Mo_merge (d + 1) B S 72 [jr_ a0, ji_ x1, u2, u3, u4, u5, u6, u7] [] (N, K, M, g) Q :=
  j_aload_n d_Mo_merge_72 rfl <| j_iconst d_Mo_merge_73 <| j_aVV (as := [ji_ 0]) (rest := []) d_Mo_merge_74 c_Mo_131 hk1 rfl (Nat.le_of_ble_eq_true rfl) hC k1
theorem s_Mo_merge_77 {G : j_G} {d B S N : Nat} {K : Nat → Option (Nat × Nat)} {M : Nat → Int → Int} {g : Nat → Int → Option Nat} {Q : j_O → j_S → Prop} {a0 : Nat} {x1 : Int} {u2 u3 u4 u5 u6 u7 : j_V} (hk1 : K a0 = some (0, 8)) (k1 : j_J G jm_Mo_merge d B S 94 [jr_ a0, ji_ 0, ji_ 0, ji_ 0, ji_ 0, ji_ 0, u6, u7] [] (N, K, (j_up M a0 35 0), g) Q) : j_J G jm_Mo_merge d B S 77 [jr_ a0, ji_ x1, u2, u3, u4, u5, u6, u7] [] (N, K, M, g) Q :=
  j_aload_n d_Mo_merge_77 rfl <| j_iconst d_Mo_merge_78 <| j_putI d_Mo_merge_79 f_Mo_199 (⟨_, rfl, Or.inl rfl⟩) rfl hk1 <| j_iconst d_Mo_merge_82 <| j_istore_n d_Mo_merge_83 rfl rfl <| j_iconst d_Mo_merge_84 <| j_istore_n d_Mo_merge_85 rfl rfl <| j_iconst d_Mo_merge_86 <| j_istore_n d_Mo_merge_87 rfl rfl <| j_iconst d_Mo_merge_88 <| j_istore d_Mo_merge_89 rfl rfl <| j_iconst d_Mo_merge_91 <| j_istore d_Mo_merge_92 rfl rfl <| k1
theorem s_Mo_merge_94 {G : j_G} {d B S N : Nat} {K : Nat → Option (Nat × Nat)} {M : Nat → Int → Int} {g : Nat → Int → Option Nat} {Q : j_O → j_S → Prop} {a0 y1 n2 : Nat} {x1 x2 x3 x4 x5 : Int} {u6 u7 : j_V} (hk1 : K a0 = some (0, 8)) (hg2 : g a0 1 = some y1) (hk2 : K y1 = some (1, n2)) (r3 : 0 ≤ (0 : Int) := by omega) (r3' : (0 : Int) < (n2 : Int) := by omega) (r4 : -2147483648 ≤ x5 ∧ x5 ≤ 2147483647 := by omega) (r5 : -2147483648 ≤ (M y1 0) ∧ (M y1 0) ≤ 2147483647 := by omega) (k1 : (M y1 0) < x5 → j_J G jm_Mo_merge d B S 285 [jr_ a0, ji_ x1, ji_ x2, ji_ x3, ji_ x4, ji_ x5, u6, u7] [] (N, K, M, g) Q) (k2 : x5 ≤ (M y1 0) → j_J G jm_Mo_merge d B S 105 [jr_ a0, ji_ x1, ji_ x2, ji_ x3, ji_ x4, ji_ x5, u6, u7] [] (N, K, M, g) Q) : j_J G jm_Mo_merge d B S 94 [jr_ a0, ji_ x1, ji_ x2, ji_ x3, ji_ x4, ji_ x5, u6, u7] [] (N, K, M, g) Q :=
  j_iload d_Mo_merge_94 rfl <| j_aload_n d_Mo_merge_96 rfl <| j_getR d_Mo_merge_97 f_Mo_13 hk1 hg2 <| j_iconst d_Mo_merge_100 <| j_iald d_Mo_merge_101 hk2 r3 r3' <| j_icmp_gt d_Mo_merge_102 r4 r5 k1 k2
theorem s_Mo_merge_105 {G : j_G} {d B S N : Nat} {K : Nat → Option (Nat × Nat)} {M : Nat → Int → Int} {g : Nat → Int → Option Nat} {Q : j_O → j_S → Prop} {a0 y1 n2 : Nat} {x1 x2 x3 x4 x5 : Int} {u6 u7 : j_V} (hk1 : K a0 = some (0, 8)) (hg2 : g a0 1 = some y1) (hk2 : K y1 = some (1, n2)) (r3 : 0 ≤ (0 : Int) := by omega) (r3' : (0 : Int) < (n2 : Int) := by omega) (r4 : -2147483648 ≤ x5 ∧ x5 ≤ 2147483647 := by omega) (r5 : -2147483648 ≤ (M y1 0) ∧ (M y1 0) ≤ 2147483647 := by omega) (k1 : x5 ≠ (M y1 0) → j_J G jm_Mo_merge d B S 121 [jr_ a0, ji_ x1, ji_ x2, ji_ x3, ji_ x4, ji_ x5, u6, u7] [ji_ 0] (N, K, M, g) Q) (k2 : x5 = (M y1 0) → j_J G jm_Mo_merge d B S 121 [jr_ a0, ji_ x1, ji_ x2, ji_ x3, ji_ x4, ji_ x5, u6, u7] [ji_ 1] (N, K, M, g) Q) : j_J G jm_Mo_merge d B S 105 [jr_ a0, ji_ x1, ji_ x2, ji_ x3, ji_ x4, ji_ x5, u6, u7] [] (N, K, M, g) Q :=
  j_iload d_Mo_merge_105 rfl <| j_aload_n d_Mo_merge_107 rfl <| j_getR d_Mo_merge_108 f_Mo_13 hk1 hg2 <| j_iconst d_Mo_merge_111 <| j_iald d_Mo_merge_112 hk2 r3 r3' <| j_icmp_ne d_Mo_merge_113 r4 r5 (fun h => j_iconst d_Mo_merge_120 <| k1 h) (fun h => j_iconst d_Mo_merge_116 <| j_goto d_Mo_merge_117 <| k2 h)
theorem s_Mo_merge_116 {G : j_G} {d B S N : Nat} {K : Nat → Option (Nat × Nat)} {M : Nat → Int → Int} {g : Nat → Int → Option Nat} {Q : j_O → j_S → Prop} {a0 : Nat} {x1 x2 x3 x4 x5 : Int} {u6 u7 : j_V}  (k1 : j_J G jm_Mo_merge d B S 121 [jr_ a0, ji_ x1, ji_ x2, ji_ x3, ji_ x4, ji_ x5, u6, u7] [ji_ 1] (N, K, M, g) Q) : j_J G jm_Mo_merge d B S 116 [jr_ a0, ji_ x1, ji_ x2, ji_ x3, ji_ x4, ji_ x5, u6, u7] [] (N, K, M, g) Q :=
  j_iconst d_Mo_merge_116 <| j_goto d_Mo_merge_117 k1
theorem s_Mo_merge_120 {G : j_G} {d B S N : Nat} {K : Nat → Option (Nat × Nat)} {M : Nat → Int → Int} {g : Nat → Int → Option Nat} {Q : j_O → j_S → Prop} {a0 : Nat} {x1 x2 x3 x4 x5 : Int} {u6 u7 : j_V}  (k1 : j_J G jm_Mo_merge d B S 121 [jr_ a0, ji_ x1, ji_ x2, ji_ x3, ji_ x4, ji_ x5, u6, u7] [ji_ 0] (N, K, M, g) Q) : j_J G jm_Mo_merge d B S 120 [jr_ a0, ji_ x1, ji_ x2, ji_ x3, ji_ x4, ji_ x5, u6, u7] [] (N, K, M, g) Q :=
  j_iconst d_Mo_merge_120 <| k1
theorem s_Mo_merge_121 {G : j_G} {d B S N : Nat} {K : Nat → Option (Nat × Nat)} {M : Nat → Int → Int} {g : Nat → Int → Option Nat} {Q : j_O → j_S → Prop} {a0 : Nat} {x1 x2 x3 x4 x5 t0 : Int} {u6 u7 : j_V} (r1 : -2147483648 ≤ t0 ∧ t0 ≤ 2147483647 := by omega) (k1 : t0 ≠ 0 → j_J G jm_Mo_merge d B S 148 [jr_ a0, ji_ x1, ji_ x2, ji_ x3, ji_ x4, ji_ x5, ji_ t0, u7] [] (N, K, M, g) Q) (k2 : t0 = 0 → j_J G jm_Mo_merge d B S 128 [jr_ a0, ji_ x1, ji_ x2, ji_ x3, ji_ x4, ji_ x5, ji_ t0, u7] [] (N, K, M, g) Q) : j_J G jm_Mo_merge d B S 121 [jr_ a0, ji_ x1, ji_ x2, ji_ x3, ji_ x4, ji_ x5, u6, u7] [ji_ t0] (N, K, M, g) Q :=
  j_istore d_Mo_merge_121 rfl rfl <| j_iload d_Mo_merge_123 rfl <| j_if_ne d_Mo_merge_125 r1 k1 k2
theorem s_Mo_merge_128 {G : j_G} {d B S N : Nat} {K : Nat → Option (Nat × Nat)} {M : Nat → Int → Int} {g : Nat → Int → Option Nat} {Q : j_O → j_S → Prop} {a0 y1 n2 : Nat} {x1 x2 x3 x4 x5 x6 : Int} {u7 : j_V} (hk1 : K a0 = some (0, 8)) (hg2 : g a0 6 = some y1) (hk2 : K y1 = some (1, n2)) (r3 : 0 ≤ x5 := by omega) (r3' : x5 < (n2 : Int) := by omega) (r4 : -2147483648 ≤ (M y1 x5) ∧ (M y1 x5) ≤ 2147483647 := by omega) (k1 : (M y1 x5) < 0 → j_J G jm_Mo_merge d B S 94 [jr_ a0, ji_ x1, ji_ x2, ji_ x3, ji_ x4, ji_ (x5 + 1), ji_ x6, u7] [] (N, K, M, g) Q) (k2 : 0 ≤ (M y1 x5) → j_J G jm_Mo_merge d B S 138 [jr_ a0, ji_ x1, ji_ x2, ji_ x3, ji_ x4, ji_ x5, ji_ x6, u7] [] (N, K, M, g) Q) : j_J G jm_Mo_merge d B S 128 [jr_ a0, ji_ x1, ji_ x2, ji_ x3, ji_ x4, ji_ x5, ji_ x6, u7] [] (N, K, M, g) Q :=
  j_aload_n d_Mo_merge_128 rfl <| j_getR d_Mo_merge_129 f_Mo_22 hk1 hg2 <| j_iload d_Mo_merge_132 rfl <| j_iald d_Mo_merge_134 hk2 r3 r3' <| j_if_lt d_Mo_merge_135 r4 (fun h => j_iinc d_Mo_merge_279 rfl rfl rfl <| j_goto d_Mo_merge_282 <| k1 h) k2
theorem s_Mo_merge_138 {G : j_G} {d B S N : Nat} {K : Nat → Option (Nat × Nat)} {M : Nat → Int → Int} {g : Nat → Int → Option Nat} {Q : j_O → j_S → Prop} {a0 y1 n2 : Nat} {x1 x2 x3 x4 x5 x6 : Int} {u7 : j_V} (hk1 : K a0 = some (0, 8)) (hg2 : g a0 37 = some y1) (hk2 : K y1 = some (1, n2)) (r3 : 0 ≤ x5 := by omega) (r3' : x5 < (n2 : Int) := by omega) (r4 : -2147483648 ≤ (M y1 x5) ∧ (M y1 x5) ≤ 2147483647 := by omega) (k1 : (M y1 x5) < 0 → j_J G jm_Mo_merge d B S 94 [jr_ a0, ji_ x1, ji_ x2, ji_ x3, ji_ x4, ji_ (x5 + 1), ji_ x6, u7] [] (N, K, M, g) Q) (k2 : 0 ≤ (M y1 x5) → j_J G jm_Mo_merge d B S 148 [jr_ a0, ji_ x1, ji_ x2, ji_ x3, ji_ x4, ji_ x5, ji_ x6, u7] [] (N, K, M, g) Q) : j_J G jm_Mo_merge d B S 138 [jr_ a0, ji_ x1, ji_ x2, ji_ x3, ji_ x4, ji_ x5, ji_ x6, u7] [] (N, K, M, g) Q :=
  j_aload_n d_Mo_merge_138 rfl <| j_getR d_Mo_merge_139 f_Mo_85 hk1 hg2 <| j_iload d_Mo_merge_142 rfl <| j_iald d_Mo_merge_144 hk2 r3 r3' <| j_if_lt d_Mo_merge_145 r4 (fun h => j_iinc d_Mo_merge_279 rfl rfl rfl <| j_goto d_Mo_merge_282 <| k1 h) k2
theorem s_Mo_merge_148 {G : j_G} {d B S N : Nat} {K : Nat → Option (Nat × Nat)} {M : Nat → Int → Int} {g : Nat → Int → Option Nat} {Q : j_O → j_S → Prop} {a0 : Nat} {x1 x2 x3 x4 x5 x6 : Int} {u7 : j_V} (r1 : -2147483648 ≤ x6 ∧ x6 ≤ 2147483647 := by omega) (k1 : x6 = 0 → j_J G jm_Mo_merge d B S 167 [jr_ a0, ji_ x1, ji_ x2, ji_ x3, ji_ x4, ji_ x5, ji_ x6, u7] [ji_ x3, ji_ x5, ji_ x2, jr_ a0] (N, K, M, g) Q) (k2 : x6 ≠ 0 → j_J G jm_Mo_merge d B S 158 [jr_ a0, ji_ x1, ji_ x2, ji_ x3, ji_ x4, ji_ x5, ji_ x6, u7] [ji_ x3, ji_ x5, ji_ x2, jr_ a0] (N, K, M, g) Q) : j_J G jm_Mo_merge d B S 148 [jr_ a0, ji_ x1, ji_ x2, ji_ x3, ji_ x4, ji_ x5, ji_ x6, u7] [] (N, K, M, g) Q :=
  j_aload_n d_Mo_merge_148 rfl <| j_iload_n d_Mo_merge_149 rfl <| j_iload d_Mo_merge_150 rfl <| j_iload_n d_Mo_merge_152 rfl <| j_iload d_Mo_merge_153 rfl <| j_if_eq d_Mo_merge_155 r1 k1 k2
theorem s_Mo_merge_158 {G : j_G} {d B S N : Nat} {K : Nat → Option (Nat × Nat)} {M : Nat → Int → Int} {g : Nat → Int → Option Nat} {Q : j_O → j_S → Prop} {a0 b0 y1 n2 : Nat} {x1 x2 x3 x4 x5 x6 t1 t2 t3 : Int} {u7 : j_V} (hk1 : K a0 = some (0, 8)) (hg2 : g a0 1 = some y1) (hk2 : K y1 = some (1, n2)) (r3 : 0 ≤ (1 : Int) := by omega) (r3' : (1 : Int) < (n2 : Int) := by omega) (k1 : j_J G jm_Mo_merge d B S 174 [jr_ a0, ji_ x1, ji_ x2, ji_ x3, ji_ x4, ji_ x5, ji_ x6, u7] [ji_ (M y1 1), ji_ t3, ji_ t2, ji_ t1, jr_ b0] (N, K, M, g) Q) : j_J G jm_Mo_merge d B S 158 [jr_ a0, ji_ x1, ji_ x2, ji_ x3, ji_ x4, ji_ x5, ji_ x6, u7] [ji_ t3, ji_ t2, ji_ t1, jr_ b0] (N, K, M, g) Q :=
  j_aload_n d_Mo_merge_158 rfl <| j_getR d_Mo_merge_159 f_Mo_13 hk1 hg2 <| j_iconst d_Mo_merge_162 <| j_iald d_Mo_merge_163 hk2 r3 r3' <| j_goto d_Mo_merge_164 k1
theorem s_Mo_merge_167 {G : j_G} {d B S N : Nat} {K : Nat → Option (Nat × Nat)} {M : Nat → Int → Int} {g : Nat → Int → Option Nat} {Q : j_O → j_S → Prop} {a0 b0 y1 n2 : Nat} {x1 x2 x3 x4 x5 x6 t1 t2 t3 : Int} {u7 : j_V} (hk1 : K a0 = some (0, 8)) (hg2 : g a0 6 = some y1) (hk2 : K y1 = some (1, n2)) (r3 : 0 ≤ x5 := by omega) (r3' : x5 < (n2 : Int) := by omega) (k1 : j_J G jm_Mo_merge d B S 174 [jr_ a0, ji_ x1, ji_ x2, ji_ x3, ji_ x4, ji_ x5, ji_ x6, u7] [ji_ (M y1 x5), ji_ t3, ji_ t2, ji_ t1, jr_ b0] (N, K, M, g) Q) : j_J G jm_Mo_merge d B S 167 [jr_ a0, ji_ x1, ji_ x2, ji_ x3, ji_ x4, ji_ x5, ji_ x6, u7] [ji_ t3, ji_ t2, ji_ t1, jr_ b0] (N, K, M, g) Q :=
  j_aload_n d_Mo_merge_167 rfl <| j_getR d_Mo_merge_168 f_Mo_22 hk1 hg2 <| j_iload d_Mo_merge_171 rfl <| j_iald d_Mo_merge_173 hk2 r3 r3' <| k1
theorem s_Mo_merge_174 {G : j_G} {d B S N : Nat} {K : Nat → Option (Nat × Nat)} {M : Nat → Int → Int} {g : Nat → Int → Option Nat} {Q : j_O → j_S → Prop} {a0 b0 : Nat} {x1 x2 x3 x4 x5 x6 t1 t2 t3 t4 : Int} {u7 : j_V} (r1 : -2147483648 ≤ x6 ∧ x6 ≤ 2147483647 := by omega) (k1 : x6 = 0 → j_J G jm_Mo_merge d B S 190 [jr_ a0, ji_ x1, ji_ x2, ji_ x3, ji_ x4, ji_ x5, ji_ x6, u7] [ji_ x4, ji_ t4, ji_ t3, ji_ t2, ji_ t1, jr_ b0] (N, K, M, g) Q) (k2 : x6 ≠ 0 → j_J G jm_Mo_merge d B S 181 [jr_ a0, ji_ x1, ji_ x2, ji_ x3, ji_ x4, ji_ x5, ji_ x6, u7] [ji_ x4, ji_ t4, ji_ t3, ji_ t2, ji_ t1, jr_ b0] (N, K, M, g) Q) : j_J G jm_Mo_merge d B S 174 [jr_ a0, ji_ x1, ji_ x2, ji_ x3, ji_ x4, ji_ x5, ji_ x6, u7] [ji_ t4, ji_ t3, ji_ t2, ji_ t1, jr_ b0] (N, K, M, g) Q :=
  j_iload d_Mo_merge_174 rfl <| j_iload d_Mo_merge_176 rfl <| j_if_eq d_Mo_merge_178 r1 k1 k2
theorem s_Mo_merge_181 {G : j_G} {d B S N : Nat} {K : Nat → Option (Nat × Nat)} {M : Nat → Int → Int} {g : Nat → Int → Option Nat} {Q : j_O → j_S → Prop} {a0 b0 y1 n2 : Nat} {x1 x2 x3 x4 x5 x6 t1 t2 t3 t4 t5 : Int} {u7 : j_V} (hk1 : K a0 = some (0, 8)) (hg2 : g a0 1 = some y1) (hk2 : K y1 = some (1, n2)) (r3 : 0 ≤ (2 : Int) := by omega) (r3' : (2 : Int) < (n2 : Int) := by omega) (k1 : j_J G jm_Mo_merge d B S 197 [jr_ a0, ji_ x1, ji_ x2, ji_ x3, ji_ x4, ji_ x5, ji_ x6, u7] [ji_ (M y1 2), ji_ t5, ji_ t4, ji_ t3, ji_ t2, ji_ t1, jr_ b0] (N, K, M, g) Q) : j_J G jm_Mo_merge d B S 181 [jr_ a0, ji_ x1, ji_ x2, ji_ x3, ji_ x4, ji_ x5, ji_ x6, u7] [ji_ t5, ji_ t4, ji_ t3, ji_ t2, ji_ t1, jr_ b0] (N, K, M, g) Q :=
  j_aload_n d_Mo_merge_181 rfl <| j_getR d_Mo_merge_182 f_Mo_13 hk1 hg2 <| j_iconst d_Mo_merge_185 <| j_iald d_Mo_merge_186 hk2 r3 r3' <| j_goto d_Mo_merge_187 k1
theorem s_Mo_merge_190 {G : j_G} {d B S N : Nat} {K : Nat → Option (Nat × Nat)} {M : Nat → Int → Int} {g : Nat → Int → Option Nat} {Q : j_O → j_S → Prop} {a0 b0 y1 n2 : Nat} {x1 x2 x3 x4 x5 x6 t1 t2 t3 t4 t5 : Int} {u7 : j_V} (hk1 : K a0 = some (0, 8)) (hg2 : g a0 37 = some y1) (hk2 : K y1 = some (1, n2)) (r3 : 0 ≤ x5 := by omega) (r3' : x5 < (n2 : Int) := by omega) (k1 : j_J G jm_Mo_merge d B S 197 [jr_ a0, ji_ x1, ji_ x2, ji_ x3, ji_ x4, ji_ x5, ji_ x6, u7] [ji_ (M y1 x5), ji_ t5, ji_ t4, ji_ t3, ji_ t2, ji_ t1, jr_ b0] (N, K, M, g) Q) : j_J G jm_Mo_merge d B S 190 [jr_ a0, ji_ x1, ji_ x2, ji_ x3, ji_ x4, ji_ x5, ji_ x6, u7] [ji_ t5, ji_ t4, ji_ t3, ji_ t2, ji_ t1, jr_ b0] (N, K, M, g) Q :=
  j_aload_n d_Mo_merge_190 rfl <| j_getR d_Mo_merge_191 f_Mo_85 hk1 hg2 <| j_iload d_Mo_merge_194 rfl <| j_iald d_Mo_merge_196 hk2 r3 r3' <| k1
theorem s_Mo_merge_197 {G : j_G} {d B S N : Nat} {K : Nat → Option (Nat × Nat)} {M : Nat → Int → Int} {g : Nat → Int → Option Nat} {Q : j_O → j_S → Prop} {a0 b0 : Nat} {x1 x2 x3 x4 x5 x6 t1 t2 t3 t4 t5 t6 : Int} {u7 : j_V} {q : Int → (Nat → Int → Int) → Prop} (hk1 : K b0 = some (0, 8)) (hC : j_Ct G jm_Mo_mergeParts d 0 0 [jr_ b0, ji_ t1, ji_ t2, ji_ t3, ji_ t4, ji_ t5, ji_ t6] (N, K, M, g) (j_pI N K g q)) (k1 : ∀ z M', q z M' → j_J G jm_Mo_merge (d + 1) B S 200 [jr_ a0, ji_ x1, ji_ x2, ji_ x3, ji_ x4, ji_ x5, ji_ x6, u7] [ji_ z] (N, K, M', g) Q) : j_J G jm_Mo_merge (d + 1) B S 197 [jr_ a0, ji_ x1, ji_ x2, ji_ x3, ji_ x4, ji_ x5, ji_ x6, u7] [ji_ t6, ji_ t5, ji_ t4, ji_ t3, ji_ t2, ji_ t1, jr_ b0] (N, K, M, g) Q :=
  j_aVI (as := [ji_ t1, ji_ t2, ji_ t3, ji_ t4, ji_ t5, ji_ t6]) (rest := []) d_Mo_merge_197 c_Mo_224 hk1 rfl (Nat.le_of_ble_eq_true rfl) hC k1
theorem s_Mo_merge_200 {G : j_G} {d B S N : Nat} {K : Nat → Option (Nat × Nat)} {M : Nat → Int → Int} {g : Nat → Int → Option Nat} {Q : j_O → j_S → Prop} {a0 : Nat} {x1 x2 x3 x4 x5 x6 t0 : Int} {u7 : j_V} (r1 : -2147483648 ≤ t0 ∧ t0 ≤ 2147483647 := by omega) (k1 : t0 < 0 → Q (.inl (some (ji_ (-2)))) (N, K, M, g)) (k2 : 0 ≤ t0 → j_J G jm_Mo_merge d B S 207 [jr_ a0, ji_ x1, ji_ x2, ji_ x3, ji_ x4, ji_ x5, ji_ x6, ji_ t0] [] (N, K, M, g) Q) : j_J G jm_Mo_merge d B S 200 [jr_ a0, ji_ x1, ji_ x2, ji_ x3, ji_ x4, ji_ x5, ji_ x6, u7] [ji_ t0] (N, K, M, g) Q :=
  j_istore d_Mo_merge_200 rfl rfl <| j_iload d_Mo_merge_202 rfl <| j_if_lt d_Mo_merge_204 r1 (fun h => j_bipush d_Mo_merge_226 (by decide) <| j_ireturn d_Mo_merge_228 rfl <| k1 h) k2
theorem s_Mo_merge_207 {G : j_G} {d B S N : Nat} {K : Nat → Option (Nat × Nat)} {M : Nat → Int → Int} {g : Nat → Int → Option Nat} {Q : j_O → j_S → Prop} {a0 : Nat} {x1 x2 x3 x4 x5 x6 x7 : Int} (r1 : -2147483648 ≤ x6 ∧ x6 ≤ 2147483647 := by omega) (k1 : x6 ≠ 0 → j_J G jm_Mo_merge d B S 229 [jr_ a0, ji_ x1, ji_ x2, ji_ x3, ji_ x4, ji_ x5, ji_ x6, ji_ x7] [] (N, K, M, g) Q) (k2 : x6 = 0 → j_J G jm_Mo_merge d B S 212 [jr_ a0, ji_ x1, ji_ x2, ji_ x3, ji_ x4, ji_ x5, ji_ x6, ji_ x7] [] (N, K, M, g) Q) : j_J G jm_Mo_merge d B S 207 [jr_ a0, ji_ x1, ji_ x2, ji_ x3, ji_ x4, ji_ x5, ji_ x6, ji_ x7] [] (N, K, M, g) Q :=
  j_iload d_Mo_merge_207 rfl <| j_if_ne d_Mo_merge_209 r1 k1 k2
theorem s_Mo_merge_212 {G : j_G} {d B S N : Nat} {K : Nat → Option (Nat × Nat)} {M : Nat → Int → Int} {g : Nat → Int → Option Nat} {Q : j_O → j_S → Prop} {a0 y1 n2 : Nat} {x1 x2 x3 x4 x5 x6 x7 : Int} {q : Int → (Nat → Int → Int) → Prop} (hk1 : K a0 = some (0, 8)) (hg2 : g a0 0 = some y1) (hk2 : K y1 = some (1, n2)) (r3 : 0 ≤ x5 := by omega) (r3' : x5 < (n2 : Int) := by omega) (hC : j_Ct G jm_Mo_tryEmit d 0 0 [jr_ a0, ji_ (M y1 x5)] (N, K, M, g) (j_pI N K g q)) (k1 : ∀ z M', q z M' → j_J G jm_Mo_merge (d + 1) B S 223 [jr_ a0, ji_ x1, ji_ x2, ji_ x3, ji_ x4, ji_ x5, ji_ x6, ji_ x7] [ji_ z] (N, K, M', g) Q) : j_J G jm_Mo_merge (d + 1) B S 212 [jr_ a0, ji_ x1, ji_ x2, ji_ x3, ji_ x4, ji_ x5, ji_ x6, ji_ x7] [] (N, K, M, g) Q :=
  j_aload_n d_Mo_merge_212 rfl <| j_aload_n d_Mo_merge_213 rfl <| j_getR d_Mo_merge_214 f_Mo_7 hk1 hg2 <| j_iload d_Mo_merge_217 rfl <| j_iald d_Mo_merge_219 hk2 r3 r3' <| j_aVI (as := [ji_ (M y1 x5)]) (rest := []) d_Mo_merge_220 c_Mo_214 hk1 rfl (Nat.le_of_ble_eq_true rfl) hC k1
theorem s_Mo_merge_223 {G : j_G} {d B S N : Nat} {K : Nat → Option (Nat × Nat)} {M : Nat → Int → Int} {g : Nat → Int → Option Nat} {Q : j_O → j_S → Prop} {a0 : Nat} {x1 x2 x3 x4 x5 x6 x7 t0 : Int} (r1 : -2147483648 ≤ t0 ∧ t0 ≤ 2147483647 := by omega) (k1 : t0 ≠ 0 → j_J G jm_Mo_merge d B S 229 [jr_ a0, ji_ x1, ji_ x2, ji_ x3, ji_ x4, ji_ x5, ji_ x6, ji_ x7] [] (N, K, M, g) Q) (k2 : t0 = 0 → Q (.inl (some (ji_ (-2)))) (N, K, M, g)) : j_J G jm_Mo_merge d B S 223 [jr_ a0, ji_ x1, ji_ x2, ji_ x3, ji_ x4, ji_ x5, ji_ x6, ji_ x7] [ji_ t0] (N, K, M, g) Q :=
  j_if_ne d_Mo_merge_223 r1 k1 (fun h => j_bipush d_Mo_merge_226 (by decide) <| j_ireturn d_Mo_merge_228 rfl <| k2 h)
theorem s_Mo_merge_226 {G : j_G} {d B S N : Nat} {K : Nat → Option (Nat × Nat)} {M : Nat → Int → Int} {g : Nat → Int → Option Nat} {Q : j_O → j_S → Prop} {a0 : Nat} {x1 x2 x3 x4 x5 x6 x7 : Int}  (k1 : Q (.inl (some (ji_ (-2)))) (N, K, M, g)) : j_J G jm_Mo_merge d B S 226 [jr_ a0, ji_ x1, ji_ x2, ji_ x3, ji_ x4, ji_ x5, ji_ x6, ji_ x7] [] (N, K, M, g) Q :=
  j_bipush d_Mo_merge_226 (by decide) <| j_ireturn d_Mo_merge_228 rfl k1
theorem s_Mo_merge_229 {G : j_G} {d B S N : Nat} {K : Nat → Option (Nat × Nat)} {M : Nat → Int → Int} {g : Nat → Int → Option Nat} {Q : j_O → j_S → Prop} {a0 : Nat} {x1 x2 x3 x4 x5 x6 x7 : Int} (r1 : -2147483648 ≤ x6 ∧ x6 ≤ 2147483647 := by omega) (k1 : x6 = 0 → j_J G jm_Mo_merge d B S 248 [jr_ a0, ji_ (x1 + x7), ji_ (x5 + 1), ji_ x3, ji_ x4, ji_ x5, ji_ x6, ji_ x7] [] (N, K, M, g) Q) (k2 : x6 ≠ 0 → j_J G jm_Mo_merge d B S 257 [jr_ a0, ji_ (x1 + x7), ji_ (x5 + 1), ji_ x3, ji_ x4, ji_ x5, ji_ x6, ji_ x7] [ji_ x3] (N, K, M, g) Q) : j_J G jm_Mo_merge d B S 229 [jr_ a0, ji_ x1, ji_ x2, ji_ x3, ji_ x4, ji_ x5, ji_ x6, ji_ x7] [] (N, K, M, g) Q :=
  j_iload_n d_Mo_merge_229 rfl <| j_iload d_Mo_merge_230 rfl <| j_iadd d_Mo_merge_232 <| j_istore_n d_Mo_merge_233 rfl rfl <| j_iload d_Mo_merge_234 rfl <| j_iconst d_Mo_merge_236 <| j_iadd d_Mo_merge_237 <| j_istore_n d_Mo_merge_238 rfl rfl <| j_iload d_Mo_merge_239 rfl <| j_if_eq d_Mo_merge_241 r1 k1 (fun h => j_iload_n d_Mo_merge_244 rfl <| j_goto d_Mo_merge_245 <| k2 h)
theorem s_Mo_merge_244 {G : j_G} {d B S N : Nat} {K : Nat → Option (Nat × Nat)} {M : Nat → Int → Int} {g : Nat → Int → Option Nat} {Q : j_O → j_S → Prop} {a0 : Nat} {x1 x2 x3 x4 x5 x6 x7 : Int}  (k1 : j_J G jm_Mo_merge d B S 257 [jr_ a0, ji_ x1, ji_ x2, ji_ x3, ji_ x4, ji_ x5, ji_ x6, ji_ x7] [ji_ x3] (N, K, M, g) Q) : j_J G jm_Mo_merge d B S 244 [jr_ a0, ji_ x1, ji_ x2, ji_ x3, ji_ x4, ji_ x5, ji_ x6, ji_ x7] [] (N, K, M, g) Q :=
  j_iload_n d_Mo_merge_244 rfl <| j_goto d_Mo_merge_245 k1
theorem s_Mo_merge_248 {G : j_G} {d B S N : Nat} {K : Nat → Option (Nat × Nat)} {M : Nat → Int → Int} {g : Nat → Int → Option Nat} {Q : j_O → j_S → Prop} {a0 y1 n2 : Nat} {x1 x2 x3 x4 x5 x6 x7 : Int} (hk1 : K a0 = some (0, 8)) (hg2 : g a0 6 = some y1) (hk2 : K y1 = some (1, n2)) (r3 : 0 ≤ x5 := by omega) (r3' : x5 < (n2 : Int) := by omega) (k1 : j_J G jm_Mo_merge d B S 257 [jr_ a0, ji_ x1, ji_ x2, ji_ x3, ji_ x4, ji_ x5, ji_ x6, ji_ x7] [ji_ ((M y1 x5) + 1)] (N, K, M, g) Q) : j_J G jm_Mo_merge d B S 248 [jr_ a0, ji_ x1, ji_ x2, ji_ x3, ji_ x4, ji_ x5, ji_ x6, ji_ x7] [] (N, K, M, g) Q :=
  j_aload_n d_Mo_merge_248 rfl <| j_getR d_Mo_merge_249 f_Mo_22 hk1 hg2 <| j_iload d_Mo_merge_252 rfl <| j_iald d_Mo_merge_254 hk2 r3 r3' <| j_iconst d_Mo_merge_255 <| j_iadd d_Mo_merge_256 <| k1
theorem s_Mo_merge_257 {G : j_G} {d B S N : Nat} {K : Nat → Option (Nat × Nat)} {M : Nat → Int → Int} {g : Nat → Int → Option Nat} {Q : j_O → j_S → Prop} {a0 : Nat} {x1 x2 x3 x4 x5 x6 x7 t0 : Int} (r1 : -2147483648 ≤ x6 ∧ x6 ≤ 2147483647 := by omega) (k1 : x6 = 0 → j_J G jm_Mo_merge d B S 268 [jr_ a0, ji_ x1, ji_ x2, ji_ t0, ji_ x4, ji_ x5, ji_ x6, ji_ x7] [] (N, K, M, g) Q) (k2 : x6 ≠ 0 → j_J G jm_Mo_merge d B S 94 [jr_ a0, ji_ x1, ji_ x2, ji_ t0, ji_ x4, ji_ (x5 + 1), ji_ x6, ji_ x7] [] (N, K, M, g) Q) : j_J G jm_Mo_merge d B S 257 [jr_ a0, ji_ x1, ji_ x2, ji_ x3, ji_ x4, ji_ x5, ji_ x6, ji_ x7] [ji_ t0] (N, K, M, g) Q :=
  j_istore_n d_Mo_merge_257 rfl rfl <| j_iload d_Mo_merge_258 rfl <| j_if_eq d_Mo_merge_260 r1 k1 (fun h => j_iload d_Mo_merge_263 rfl <| j_goto d_Mo_merge_265 <| j_istore d_Mo_merge_277 rfl rfl <| j_iinc d_Mo_merge_279 rfl rfl rfl <| j_goto d_Mo_merge_282 <| k2 h)
theorem s_Mo_merge_263 {G : j_G} {d B S N : Nat} {K : Nat → Option (Nat × Nat)} {M : Nat → Int → Int} {g : Nat → Int → Option Nat} {Q : j_O → j_S → Prop} {a0 : Nat} {x1 x2 x3 x4 x5 x6 x7 : Int}  (k1 : j_J G jm_Mo_merge d B S 94 [jr_ a0, ji_ x1, ji_ x2, ji_ x3, ji_ x4, ji_ (x5 + 1), ji_ x6, ji_ x7] [] (N, K, M, g) Q) : j_J G jm_Mo_merge d B S 263 [jr_ a0, ji_ x1, ji_ x2, ji_ x3, ji_ x4, ji_ x5, ji_ x6, ji_ x7] [] (N, K, M, g) Q :=
  j_iload d_Mo_merge_263 rfl <| j_goto d_Mo_merge_265 (j_istore d_Mo_merge_277 rfl rfl <| j_iinc d_Mo_merge_279 rfl rfl rfl <| j_goto d_Mo_merge_282 <| k1)
theorem s_Mo_merge_268 {G : j_G} {d B S N : Nat} {K : Nat → Option (Nat × Nat)} {M : Nat → Int → Int} {g : Nat → Int → Option Nat} {Q : j_O → j_S → Prop} {a0 y1 n2 : Nat} {x1 x2 x3 x4 x5 x6 x7 : Int} (hk1 : K a0 = some (0, 8)) (hg2 : g a0 37 = some y1) (hk2 : K y1 = some (1, n2)) (r3 : 0 ≤ x5 := by omega) (r3' : x5 < (n2 : Int) := by omega) (k1 : j_J G jm_Mo_merge d B S 94 [jr_ a0, ji_ x1, ji_ x2, ji_ x3, ji_ ((M y1 x5) + 1), ji_ (x5 + 1), ji_ x6, ji_ x7] [] (N, K, M, g) Q) : j_J G jm_Mo_merge d B S 268 [jr_ a0, ji_ x1, ji_ x2, ji_ x3, ji_ x4, ji_ x5, ji_ x6, ji_ x7] [] (N, K, M, g) Q :=
  j_aload_n d_Mo_merge_268 rfl <| j_getR d_Mo_merge_269 f_Mo_85 hk1 hg2 <| j_iload d_Mo_merge_272 rfl <| j_iald d_Mo_merge_274 hk2 r3 r3' <| j_iconst d_Mo_merge_275 <| j_iadd d_Mo_merge_276 <| (j_istore d_Mo_merge_277 rfl rfl <| j_iinc d_Mo_merge_279 rfl rfl rfl <| j_goto d_Mo_merge_282 <| k1)
theorem s_Mo_merge_277 {G : j_G} {d B S N : Nat} {K : Nat → Option (Nat × Nat)} {M : Nat → Int → Int} {g : Nat → Int → Option Nat} {Q : j_O → j_S → Prop} {a0 : Nat} {x1 x2 x3 x4 x5 x6 x7 t0 : Int}  (k1 : j_J G jm_Mo_merge d B S 94 [jr_ a0, ji_ x1, ji_ x2, ji_ x3, ji_ t0, ji_ (x5 + 1), ji_ x6, ji_ x7] [] (N, K, M, g) Q) : j_J G jm_Mo_merge d B S 277 [jr_ a0, ji_ x1, ji_ x2, ji_ x3, ji_ x4, ji_ x5, ji_ x6, ji_ x7] [ji_ t0] (N, K, M, g) Q :=
  j_istore d_Mo_merge_277 rfl rfl <| (j_iinc d_Mo_merge_279 rfl rfl rfl <| j_goto d_Mo_merge_282 <| k1)
theorem s_Mo_merge_279 {G : j_G} {d B S N : Nat} {K : Nat → Option (Nat × Nat)} {M : Nat → Int → Int} {g : Nat → Int → Option Nat} {Q : j_O → j_S → Prop} {a0 : Nat} {x1 x2 x3 x4 x5 x6 : Int} {u7 : j_V}  (k1 : j_J G jm_Mo_merge d B S 94 [jr_ a0, ji_ x1, ji_ x2, ji_ x3, ji_ x4, ji_ (x5 + 1), ji_ x6, u7] [] (N, K, M, g) Q) : j_J G jm_Mo_merge d B S 279 [jr_ a0, ji_ x1, ji_ x2, ji_ x3, ji_ x4, ji_ x5, ji_ x6, u7] [] (N, K, M, g) Q :=
  j_iinc d_Mo_merge_279 rfl rfl rfl <| j_goto d_Mo_merge_282 k1
theorem s_Mo_merge_285 {G : j_G} {d B S N : Nat} {K : Nat → Option (Nat × Nat)} {M : Nat → Int → Int} {g : Nat → Int → Option Nat} {Q : j_O → j_S → Prop} {a0 : Nat} {x1 x2 x3 x4 x5 : Int} {u6 u7 : j_V} {q : (Nat → Int → Int) → Prop} (hk1 : K a0 = some (0, 8)) (hC : j_Ct G jm_Mo_keep d 0 0 [jr_ a0, ji_ 3] (N, K, M, g) (j_pV N K g q)) (k1 : ∀ M', q M' → j_J G jm_Mo_merge (d + 1) B S 290 [jr_ a0, ji_ x1, ji_ x2, ji_ x3, ji_ x4, ji_ x5, u6, u7] [] (N, K, M', g) Q) : j_J G jm_Mo_merge (d + 1) B S 285 [jr_ a0, ji_ x1, ji_ x2, ji_ x3, ji_ x4, ji_ x5, u6, u7] [] (N, K, M, g) Q :=
  j_aload_n d_Mo_merge_285 rfl <| j_iconst d_Mo_merge_286 <| j_aVV (as := [ji_ 3]) (rest := []) d_Mo_merge_287 c_Mo_211 hk1 rfl (Nat.le_of_ble_eq_true rfl) hC k1
theorem s_Mo_merge_290 {G : j_G} {d B S N : Nat} {K : Nat → Option (Nat × Nat)} {M : Nat → Int → Int} {g : Nat → Int → Option Nat} {Q : j_O → j_S → Prop} {a0 : Nat} {x1 x2 x3 x4 x5 : Int} {u6 u7 : j_V}  (k1 : Q (.inl (some (ji_ x1))) (N, K, M, g)) : j_J G jm_Mo_merge d B S 290 [jr_ a0, ji_ x1, ji_ x2, ji_ x3, ji_ x4, ji_ x5, u6, u7] [] (N, K, M, g) Q :=
  j_iload_n d_Mo_merge_290 rfl <| j_ireturn d_Mo_merge_291 rfl k1
