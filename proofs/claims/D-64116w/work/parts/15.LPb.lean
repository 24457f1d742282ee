/-! decode facts, pool facts and segments: LP_readAll, LP_read, LP_stands, LP_find, LP_apply, LP_replace, LP_merge, LP_clash, LP_putClash, LP_putPart (printed by gen/mk.py) -/
theorem d_LP_readAll_0 : j_D jm_LP_readAll 0 (.aload_n 0) 1 1 := ⟨by decide +kernel, rfl⟩
theorem d_LP_readAll_1 : j_D jm_LP_readAll 1 (.getfield 73) 3 4 := ⟨by decide +kernel, rfl⟩
theorem d_LP_readAll_4 : j_D jm_LP_readAll 4 (.invokevirtual 162) 3 7 := ⟨by decide +kernel, rfl⟩
theorem d_LP_readAll_7 : j_D jm_LP_readAll 7 (.aload_n 0) 1 8 := ⟨by decide +kernel, rfl⟩
theorem d_LP_readAll_8 : j_D jm_LP_readAll 8 (.getfield 64) 3 11 := ⟨by decide +kernel, rfl⟩
theorem d_LP_readAll_11 : j_D jm_LP_readAll 11 (.iconst 0) 1 12 := ⟨by decide +kernel, rfl⟩
theorem d_LP_readAll_12 : j_D jm_LP_readAll 12 (.putfield 165) 3 15 := ⟨by decide +kernel, rfl⟩
theorem d_LP_readAll_15 : j_D jm_LP_readAll 15 (.aload_n 0) 1 16 := ⟨by decide +kernel, rfl⟩
theorem d_LP_readAll_16 : j_D jm_LP_readAll 16 (.getfield 64) 3 19 := ⟨by decide +kernel, rfl⟩
theorem d_LP_readAll_19 : j_D jm_LP_readAll 19 (.getfield 165) 3 22 := ⟨by decide +kernel, rfl⟩
theorem d_LP_readAll_22 : j_D jm_LP_readAll 22 (.aload_n 0) 1 23 := ⟨by decide +kernel, rfl⟩
theorem d_LP_readAll_23 : j_D jm_LP_readAll 23 (.getfield 64) 3 26 := ⟨by decide +kernel, rfl⟩
theorem d_LP_readAll_26 : j_D jm_LP_readAll 26 (.getfield 140) 3 29 := ⟨by decide +kernel, rfl⟩
theorem d_LP_readAll_29 : j_E jm_LP_readAll 29 (.if_icmp .ge) 21 32 50 := ⟨by decide +kernel, rfl, by decide⟩
theorem d_LP_readAll_32 : j_D jm_LP_readAll 32 (.aload_n 0) 1 33 := ⟨by decide +kernel, rfl⟩
theorem d_LP_readAll_33 : j_D jm_LP_readAll 33 (.getfield 73) 3 36 := ⟨by decide +kernel, rfl⟩
theorem d_LP_readAll_36 : j_D jm_LP_readAll 36 (.aload_n 0) 1 37 := ⟨by decide +kernel, rfl⟩
theorem d_LP_readAll_37 : j_D jm_LP_readAll 37 (.getfield 64) 3 40 := ⟨by decide +kernel, rfl⟩
theorem d_LP_readAll_40 : j_D jm_LP_readAll 40 (.invokevirtual 168) 3 43 := ⟨by decide +kernel, rfl⟩
theorem d_LP_readAll_43 : j_D jm_LP_readAll 43 (.invokevirtual 172) 3 46 := ⟨by decide +kernel, rfl⟩
theorem d_LP_readAll_46 : j_D jm_LP_readAll 46 .pop 1 47 := ⟨by decide +kernel, rfl⟩
theorem d_LP_readAll_47 : j_E jm_LP_readAll 47 .goto (-32) 50 15 := ⟨by decide +kernel, rfl, by decide⟩
theorem d_LP_readAll_50 : j_D jm_LP_readAll 50 .return_ 1 51 := ⟨by decide +kernel, rfl⟩
theorem d_LP_read_0 : j_D jm_LP_read 0 (.aload_n 0) 1 1 := ⟨by decide +kernel, rfl⟩
theorem d_LP_read_1 : j_D jm_LP_read 1 (.invokevirtual 175) 3 4 := ⟨by decide +kernel, rfl⟩
theorem d_LP_read_4 : j_E jm_LP_read 4 .goto 12 7 16 := ⟨by decide +kernel, rfl, by decide⟩
theorem d_LP_read_7 : j_D jm_LP_read 7 (.astore_n 1) 1 8 := ⟨by decide +kernel, rfl⟩
theorem d_LP_read_8 : j_D jm_LP_read 8 (.aload_n 0) 1 9 := ⟨by decide +kernel, rfl⟩
theorem d_LP_read_9 : j_D jm_LP_read 9 (.getfield 64) 3 12 := ⟨by decide +kernel, rfl⟩
theorem d_LP_read_12 : j_D jm_LP_read 12 (.getfield 165) 3 15 := ⟨by decide +kernel, rfl⟩
theorem d_LP_read_15 : j_D jm_LP_read 15 .ireturn 1 16 := ⟨by decide +kernel, rfl⟩
theorem d_LP_read_16 : j_D jm_LP_read 16 (.iconst (-1)) 1 17 := ⟨by decide +kernel, rfl⟩
theorem d_LP_read_17 : j_D jm_LP_read 17 .ireturn 1 18 := ⟨by decide +kernel, rfl⟩
theorem d_LP_stands_0 : j_D jm_LP_stands 0 (.iload_n 3) 1 1 := ⟨by decide +kernel, rfl⟩
theorem d_LP_stands_1 : j_D jm_LP_stands 1 (.istore 4) 2 3 := ⟨by decide +kernel, rfl⟩
theorem d_LP_stands_3 : j_D jm_LP_stands 3 (.iload_n 3) 1 4 := ⟨by decide +kernel, rfl⟩
theorem d_LP_stands_4 : j_D jm_LP_stands 4 (.aload_n 1) 1 5 := ⟨by decide +kernel, rfl⟩
theorem d_LP_stands_5 : j_D jm_LP_stands 5 (.getfield 180) 3 8 := ⟨by decide +kernel, rfl⟩
theorem d_LP_stands_8 : j_D jm_LP_stands 8 .iadd 1 9 := ⟨by decide +kernel, rfl⟩
theorem d_LP_stands_9 : j_D jm_LP_stands 9 (.aload_n 2) 1 10 := ⟨by decide +kernel, rfl⟩
theorem d_LP_stands_10 : j_D jm_LP_stands 10 (.getfield 85) 3 13 := ⟨by decide +kernel, rfl⟩
theorem d_LP_stands_13 : j_E jm_LP_stands 13 (.if_icmp .gt) 7 16 20 := ⟨by decide +kernel, rfl, by decide⟩
theorem d_LP_stands_16 : j_D jm_LP_stands 16 (.iconst 1) 1 17 := ⟨by decide +kernel, rfl⟩
theorem d_LP_stands_17 : j_E jm_LP_stands 17 .goto 4 20 21 := ⟨by decide +kernel, rfl, by decide⟩
theorem d_LP_stands_20 : j_D jm_LP_stands 20 (.iconst 0) 1 21 := ⟨by decide +kernel, rfl⟩
theorem d_LP_stands_21 : j_D jm_LP_stands 21 (.istore 5) 2 23 := ⟨by decide +kernel, rfl⟩
theorem d_LP_stands_23 : j_D jm_LP_stands 23 (.iconst 0) 1 24 := ⟨by decide +kernel, rfl⟩
theorem d_LP_stands_24 : j_D jm_LP_stands 24 (.istore 6) 2 26 := ⟨by decide +kernel, rfl⟩
theorem d_LP_stands_26 : j_D jm_LP_stands 26 (.iload 6) 2 28 := ⟨by decide +kernel, rfl⟩
theorem d_LP_stands_28 : j_D jm_LP_stands 28 (.aload_n 1) 1 29 := ⟨by decide +kernel, rfl⟩
theorem d_LP_stands_29 : j_D jm_LP_stands 29 (.getfield 185) 3 32 := ⟨by decide +kernel, rfl⟩
theorem d_LP_stands_32 : j_E jm_LP_stands 32 (.if_icmp .ge) 72 35 104 := ⟨by decide +kernel, rfl, by decide⟩
theorem d_LP_stands_35 : j_D jm_LP_stands 35 (.iload 5) 2 37 := ⟨by decide +kernel, rfl⟩
theorem d_LP_stands_37 : j_E jm_LP_stands 37 (.ifCond .eq) 67 40 104 := ⟨by decide +kernel, rfl, by decide⟩
theorem d_LP_stands_40 : j_D jm_LP_stands 40 (.aload_n 1) 1 41 := ⟨by decide +kernel, rfl⟩
theorem d_LP_stands_41 : j_D jm_LP_stands 41 (.getfield 188) 3 44 := ⟨by decide +kernel, rfl⟩
theorem d_LP_stands_44 : j_D jm_LP_stands 44 (.iconst 3) 1 45 := ⟨by decide +kernel, rfl⟩
theorem d_LP_stands_45 : j_D jm_LP_stands 45 (.iload 6) 2 47 := ⟨by decide +kernel, rfl⟩
theorem d_LP_stands_47 : j_D jm_LP_stands 47 .imul 1 48 := ⟨by decide +kernel, rfl⟩
theorem d_LP_stands_48 : j_D jm_LP_stands 48 .iadd 1 49 := ⟨by decide +kernel, rfl⟩
theorem d_LP_stands_49 : j_D jm_LP_stands 49 (.istore 7) 2 51 := ⟨by decide +kernel, rfl⟩
theorem d_LP_stands_51 : j_D jm_LP_stands 51 (.aload_n 0) 1 52 := ⟨by decide +kernel, rfl⟩
theorem d_LP_stands_52 : j_D jm_LP_stands 52 (.getfield 64) 3 55 := ⟨by decide +kernel, rfl⟩
theorem d_LP_stands_55 : j_D jm_LP_stands 55 (.getfield 161) 3 58 := ⟨by decide +kernel, rfl⟩
theorem d_LP_stands_58 : j_D jm_LP_stands 58 (.iload 7) 2 60 := ⟨by decide +kernel, rfl⟩
theorem d_LP_stands_60 : j_D jm_LP_stands 60 .baload 1 61 := ⟨by decide +kernel, rfl⟩
theorem d_LP_stands_61 : j_D jm_LP_stands 61 (.bipush 43) 2 63 := ⟨by decide +kernel, rfl⟩
theorem d_LP_stands_63 : j_E jm_LP_stands 63 (.if_icmp .eq) 35 66 98 := ⟨by decide +kernel, rfl, by decide⟩
theorem d_LP_stands_66 : j_D jm_LP_stands 66 (.aload_n 2) 1 67 := ⟨by decide +kernel, rfl⟩
theorem d_LP_stands_67 : j_D jm_LP_stands 67 (.getfield 92) 3 70 := ⟨by decide +kernel, rfl⟩
theorem d_LP_stands_70 : j_D jm_LP_stands 70 (.iload 4) 2 72 := ⟨by decide +kernel, rfl⟩
theorem d_LP_stands_72 : j_D jm_LP_stands 72 .baload 1 73 := ⟨by decide +kernel, rfl⟩
theorem d_LP_stands_73 : j_D jm_LP_stands 73 (.aload_n 0) 1 74 := ⟨by decide +kernel, rfl⟩
theorem d_LP_stands_74 : j_D jm_LP_stands 74 (.getfield 64) 3 77 := ⟨by decide +kernel, rfl⟩
theorem d_LP_stands_77 : j_D jm_LP_stands 77 (.getfield 161) 3 80 := ⟨by decide +kernel, rfl⟩
theorem d_LP_stands_80 : j_D jm_LP_stands 80 (.iload 7) 2 82 := ⟨by decide +kernel, rfl⟩
theorem d_LP_stands_82 : j_D jm_LP_stands 82 (.iconst 1) 1 83 := ⟨by decide +kernel, rfl⟩
theorem d_LP_stands_83 : j_D jm_LP_stands 83 .iadd 1 84 := ⟨by decide +kernel, rfl⟩
theorem d_LP_stands_84 : j_D jm_LP_stands 84 .baload 1 85 := ⟨by decide +kernel, rfl⟩
theorem d_LP_stands_85 : j_E jm_LP_stands 85 (.if_icmp .ne) 7 88 92 := ⟨by decide +kernel, rfl, by decide⟩
theorem d_LP_stands_88 : j_D jm_LP_stands 88 (.iconst 1) 1 89 := ⟨by decide +kernel, rfl⟩
theorem d_LP_stands_89 : j_E jm_LP_stands 89 .goto 4 92 93 := ⟨by decide +kernel, rfl, by decide⟩
theorem d_LP_stands_92 : j_D jm_LP_stands 92 (.iconst 0) 1 93 := ⟨by decide +kernel, rfl⟩
theorem d_LP_stands_93 : j_D jm_LP_stands 93 (.istore 5) 2 95 := ⟨by decide +kernel, rfl⟩
theorem d_LP_stands_95 : j_D jm_LP_stands 95 (.iinc 4 1) 3 98 := ⟨by decide +kernel, rfl⟩
theorem d_LP_stands_98 : j_D jm_LP_stands 98 (.iinc 6 1) 3 101 := ⟨by decide +kernel, rfl⟩
theorem d_LP_stands_101 : j_E jm_LP_stands 101 .goto (-75) 104 26 := ⟨by decide +kernel, rfl, by decide⟩
theorem d_LP_stands_104 : j_D jm_LP_stands 104 (.iload 5) 2 106 := ⟨by decide +kernel, rfl⟩
theorem d_LP_stands_106 : j_D jm_LP_stands 106 .ireturn 1 107 := ⟨by decide +kernel, rfl⟩
theorem d_LP_find_0 : j_D jm_LP_find 0 (.iconst (-1)) 1 1 := ⟨by decide +kernel, rfl⟩
theorem d_LP_find_1 : j_D jm_LP_find 1 (.istore 4) 2 3 := ⟨by decide +kernel, rfl⟩
theorem d_LP_find_3 : j_D jm_LP_find 3 (.iload_n 3) 1 4 := ⟨by decide +kernel, rfl⟩
theorem d_LP_find_4 : j_D jm_LP_find 4 (.istore 5) 2 6 := ⟨by decide +kernel, rfl⟩
theorem d_LP_find_6 : j_D jm_LP_find 6 (.iload 5) 2 8 := ⟨by decide +kernel, rfl⟩
theorem d_LP_find_8 : j_D jm_LP_find 8 (.aload_n 2) 1 9 := ⟨by decide +kernel, rfl⟩
theorem d_LP_find_9 : j_D jm_LP_find 9 (.getfield 85) 3 12 := ⟨by decide +kernel, rfl⟩
theorem d_LP_find_12 : j_E jm_LP_find 12 (.if_icmp .gt) 69 15 81 := ⟨by decide +kernel, rfl, by decide⟩
theorem d_LP_find_15 : j_D jm_LP_find 15 (.iload 4) 2 17 := ⟨by decide +kernel, rfl⟩
theorem d_LP_find_17 : j_E jm_LP_find 17 (.ifCond .lt) 26 20 43 := ⟨by decide +kernel, rfl, by decide⟩
theorem d_LP_find_20 : j_D jm_LP_find 20 (.iload 5) 2 22 := ⟨by decide +kernel, rfl⟩
theorem d_LP_find_22 : j_D jm_LP_find 22 (.aload_n 1) 1 23 := ⟨by decide +kernel, rfl⟩
theorem d_LP_find_23 : j_D jm_LP_find 23 (.getfield 191) 3 26 := ⟨by decide +kernel, rfl⟩
theorem d_LP_find_26 : j_D jm_LP_find 26 .isub 1 27 := ⟨by decide +kernel, rfl⟩
theorem d_LP_find_27 : j_D jm_LP_find 27 (.invokestatic 194) 3 30 := ⟨by decide +kernel, rfl⟩
theorem d_LP_find_30 : j_D jm_LP_find 30 (.iload 4) 2 32 := ⟨by decide +kernel, rfl⟩
theorem d_LP_find_32 : j_D jm_LP_find 32 (.aload_n 1) 1 33 := ⟨by decide +kernel, rfl⟩
theorem d_LP_find_33 : j_D jm_LP_find 33 (.getfield 191) 3 36 := ⟨by decide +kernel, rfl⟩
theorem d_LP_find_36 : j_D jm_LP_find 36 .isub 1 37 := ⟨by decide +kernel, rfl⟩
theorem d_LP_find_37 : j_D jm_LP_find 37 (.invokestatic 194) 3 40 := ⟨by decide +kernel, rfl⟩
theorem d_LP_find_40 : j_E jm_LP_find 40 (.if_icmp .ge) 7 43 47 := ⟨by decide +kernel, rfl, by decide⟩
theorem d_LP_find_43 : j_D jm_LP_find 43 (.iconst 1) 1 44 := ⟨by decide +kernel, rfl⟩
theorem d_LP_find_44 : j_E jm_LP_find 44 .goto 4 47 48 := ⟨by decide +kernel, rfl, by decide⟩
theorem d_LP_find_47 : j_D jm_LP_find 47 (.iconst 0) 1 48 := ⟨by decide +kernel, rfl⟩
theorem d_LP_find_48 : j_D jm_LP_find 48 (.istore 6) 2 50 := ⟨by decide +kernel, rfl⟩
theorem d_LP_find_50 : j_D jm_LP_find 50 (.iload 6) 2 52 := ⟨by decide +kernel, rfl⟩
theorem d_LP_find_52 : j_E jm_LP_find 52 (.ifCond .eq) 19 55 71 := ⟨by decide +kernel, rfl, by decide⟩
theorem d_LP_find_55 : j_D jm_LP_find 55 (.aload_n 0) 1 56 := ⟨by decide +kernel, rfl⟩
theorem d_LP_find_56 : j_D jm_LP_find 56 (.aload_n 1) 1 57 := ⟨by decide +kernel, rfl⟩
theorem d_LP_find_57 : j_D jm_LP_find 57 (.aload_n 2) 1 58 := ⟨by decide +kernel, rfl⟩
theorem d_LP_find_58 : j_D jm_LP_find 58 (.iload 5) 2 60 := ⟨by decide +kernel, rfl⟩
theorem d_LP_find_60 : j_D jm_LP_find 60 (.invokevirtual 198) 3 63 := ⟨by decide +kernel, rfl⟩
theorem d_LP_find_63 : j_E jm_LP_find 63 (.ifCond .eq) 8 66 71 := ⟨by decide +kernel, rfl, by decide⟩
theorem d_LP_find_66 : j_D jm_LP_find 66 (.iload 5) 2 68 := ⟨by decide +kernel, rfl⟩
theorem d_LP_find_68 : j_E jm_LP_find 68 .goto 5 71 73 := ⟨by decide +kernel, rfl, by decide⟩
theorem d_LP_find_71 : j_D jm_LP_find 71 (.iload 4) 2 73 := ⟨by decide +kernel, rfl⟩
theorem d_LP_find_73 : j_D jm_LP_find 73 (.istore 4) 2 75 := ⟨by decide +kernel, rfl⟩
theorem d_LP_find_75 : j_D jm_LP_find 75 (.iinc 5 1) 3 78 := ⟨by decide +kernel, rfl⟩
theorem d_LP_find_78 : j_E jm_LP_find 78 .goto (-72) 81 6 := ⟨by decide +kernel, rfl, by decide⟩
theorem d_LP_find_81 : j_D jm_LP_find 81 (.iload 4) 2 83 := ⟨by decide +kernel, rfl⟩
theorem d_LP_find_83 : j_D jm_LP_find 83 .ireturn 1 84 := ⟨by decide +kernel, rfl⟩
theorem d_LP_apply_0 : j_D jm_LP_apply 0 (.iload_n 1) 1 1 := ⟨by decide +kernel, rfl⟩
theorem d_LP_apply_1 : j_D jm_LP_apply 1 (.invokestatic 78) 3 4 := ⟨by decide +kernel, rfl⟩
theorem d_LP_apply_4 : j_E jm_LP_apply 4 (.ifCond .eq) 10 7 14 := ⟨by decide +kernel, rfl, by decide⟩
theorem d_LP_apply_7 : j_D jm_LP_apply 7 (.aload_n 0) 1 8 := ⟨by decide +kernel, rfl⟩
theorem d_LP_apply_8 : j_D jm_LP_apply 8 (.invokevirtual 202) 3 11 := ⟨by decide +kernel, rfl⟩
theorem d_LP_apply_11 : j_E jm_LP_apply 11 (.ifCond .lt) 5 14 16 := ⟨by decide +kernel, rfl, by decide⟩
theorem d_LP_apply_14 : j_D jm_LP_apply 14 (.iconst (-1)) 1 15 := ⟨by decide +kernel, rfl⟩
theorem d_LP_apply_15 : j_D jm_LP_apply 15 .ireturn 1 16 := ⟨by decide +kernel, rfl⟩
theorem d_LP_apply_16 : j_D jm_LP_apply 16 (.aload_n 0) 1 17 := ⟨by decide +kernel, rfl⟩
theorem d_LP_apply_17 : j_D jm_LP_apply 17 (.getfield 15) 3 20 := ⟨by decide +kernel, rfl⟩
theorem d_LP_apply_20 : j_D jm_LP_apply 20 (.iload_n 1) 1 21 := ⟨by decide +kernel, rfl⟩
theorem d_LP_apply_21 : j_D jm_LP_apply 21 .aaload 1 22 := ⟨by decide +kernel, rfl⟩
theorem d_LP_apply_22 : j_D jm_LP_apply 22 (.astore_n 2) 1 23 := ⟨by decide +kernel, rfl⟩
theorem d_LP_apply_23 : j_D jm_LP_apply 23 (.iconst 0) 1 24 := ⟨by decide +kernel, rfl⟩
theorem d_LP_apply_24 : j_D jm_LP_apply 24 (.istore_n 3) 1 25 := ⟨by decide +kernel, rfl⟩
theorem d_LP_apply_25 : j_D jm_LP_apply 25 (.aload_n 2) 1 26 := ⟨by decide +kernel, rfl⟩
theorem d_LP_apply_26 : j_D jm_LP_apply 26 (.getfield 85) 3 29 := ⟨by decide +kernel, rfl⟩
theorem d_LP_apply_29 : j_D jm_LP_apply 29 (.istore 4) 2 31 := ⟨by decide +kernel, rfl⟩
theorem d_LP_apply_31 : j_D jm_LP_apply 31 (.iconst 0) 1 32 := ⟨by decide +kernel, rfl⟩
theorem d_LP_apply_32 : j_D jm_LP_apply 32 (.istore 5) 2 34 := ⟨by decide +kernel, rfl⟩
theorem d_LP_apply_34 : j_D jm_LP_apply 34 (.iload 5) 2 36 := ⟨by decide +kernel, rfl⟩
theorem d_LP_apply_36 : j_D jm_LP_apply 36 (.aload_n 0) 1 37 := ⟨by decide +kernel, rfl⟩
theorem d_LP_apply_37 : j_D jm_LP_apply 37 (.getfield 73) 3 40 := ⟨by decide +kernel, rfl⟩
theorem d_LP_apply_40 : j_D jm_LP_apply 40 (.invokevirtual 205) 3 43 := ⟨by decide +kernel, rfl⟩
theorem d_LP_apply_43 : j_E jm_LP_apply 43 (.if_icmp .ge) 85 46 128 := ⟨by decide +kernel, rfl, by decide⟩
theorem d_LP_apply_46 : j_D jm_LP_apply 46 (.aload_n 0) 1 47 := ⟨by decide +kernel, rfl⟩
theorem d_LP_apply_47 : j_D jm_LP_apply 47 (.getfield 73) 3 50 := ⟨by decide +kernel, rfl⟩
theorem d_LP_apply_50 : j_D jm_LP_apply 50 (.iload 5) 2 52 := ⟨by decide +kernel, rfl⟩
theorem d_LP_apply_52 : j_D jm_LP_apply 52 (.invokevirtual 207) 3 55 := ⟨by decide +kernel, rfl⟩
theorem d_LP_apply_55 : j_D jm_LP_apply 55 (.checkcast 181) 3 58 := ⟨by decide +kernel, rfl⟩
theorem d_LP_apply_58 : j_D jm_LP_apply 58 (.astore 6) 2 60 := ⟨by decide +kernel, rfl⟩
theorem d_LP_apply_60 : j_D jm_LP_apply 60 (.aload 6) 2 62 := ⟨by decide +kernel, rfl⟩
theorem d_LP_apply_62 : j_D jm_LP_apply 62 (.aload_n 0) 1 63 := ⟨by decide +kernel, rfl⟩
theorem d_LP_apply_63 : j_D jm_LP_apply 63 (.aload 6) 2 65 := ⟨by decide +kernel, rfl⟩
theorem d_LP_apply_65 : j_D jm_LP_apply 65 (.aload_n 2) 1 66 := ⟨by decide +kernel, rfl⟩
theorem d_LP_apply_66 : j_D jm_LP_apply 66 (.iload_n 3) 1 67 := ⟨by decide +kernel, rfl⟩
theorem d_LP_apply_67 : j_D jm_LP_apply 67 (.invokevirtual 211) 3 70 := ⟨by decide +kernel, rfl⟩
theorem d_LP_apply_70 : j_D jm_LP_apply 70 (.putfield 215) 3 73 := ⟨by decide +kernel, rfl⟩
theorem d_LP_apply_73 : j_D jm_LP_apply 73 (.iload 4) 2 75 := ⟨by decide +kernel, rfl⟩
theorem d_LP_apply_75 : j_D jm_LP_apply 75 (.aload 6) 2 77 := ⟨by decide +kernel, rfl⟩
theorem d_LP_apply_77 : j_D jm_LP_apply 77 (.getfield 218) 3 80 := ⟨by decide +kernel, rfl⟩
theorem d_LP_apply_80 : j_D jm_LP_apply 80 (.aload 6) 2 82 := ⟨by decide +kernel, rfl⟩
theorem d_LP_apply_82 : j_D jm_LP_apply 82 (.getfield 180) 3 85 := ⟨by decide +kernel, rfl⟩
theorem d_LP_apply_85 : j_D jm_LP_apply 85 .isub 1 86 := ⟨by decide +kernel, rfl⟩
theorem d_LP_apply_86 : j_D jm_LP_apply 86 .iadd 1 87 := ⟨by decide +kernel, rfl⟩
theorem d_LP_apply_87 : j_D jm_LP_apply 87 (.istore 4) 2 89 := ⟨by decide +kernel, rfl⟩
theorem d_LP_apply_89 : j_D jm_LP_apply 89 (.aload 6) 2 91 := ⟨by decide +kernel, rfl⟩
theorem d_LP_apply_91 : j_D jm_LP_apply 91 (.getfield 215) 3 94 := ⟨by decide +kernel, rfl⟩
theorem d_LP_apply_94 : j_E jm_LP_apply 94 (.ifCond .lt) 10 97 104 := ⟨by decide +kernel, rfl, by decide⟩
theorem d_LP_apply_97 : j_D jm_LP_apply 97 (.iload 4) 2 99 := ⟨by decide +kernel, rfl⟩
theorem d_LP_apply_99 : j_D jm_LP_apply 99 (.bipush 24) 2 101 := ⟨by decide +kernel, rfl⟩
theorem d_LP_apply_101 : j_E jm_LP_apply 101 (.if_icmp .le) 9 104 110 := ⟨by decide +kernel, rfl, by decide⟩
theorem d_LP_apply_104 : j_D jm_LP_apply 104 (.bipush (-3)) 2 106 := ⟨by decide +kernel, rfl⟩
theorem d_LP_apply_106 : j_D jm_LP_apply 106 (.iload 5) 2 108 := ⟨by decide +kernel, rfl⟩
theorem d_LP_apply_108 : j_D jm_LP_apply 108 .isub 1 109 := ⟨by decide +kernel, rfl⟩
theorem d_LP_apply_109 : j_D jm_LP_apply 109 .ireturn 1 110 := ⟨by decide +kernel, rfl⟩
theorem d_LP_apply_110 : j_D jm_LP_apply 110 (.aload 6) 2 112 := ⟨by decide +kernel, rfl⟩
theorem d_LP_apply_112 : j_D jm_LP_apply 112 (.getfield 215) 3 115 := ⟨by decide +kernel, rfl⟩
theorem d_LP_apply_115 : j_D jm_LP_apply 115 (.aload 6) 2 117 := ⟨by decide +kernel, rfl⟩
theorem d_LP_apply_117 : j_D jm_LP_apply 117 (.getfield 180) 3 120 := ⟨by decide +kernel, rfl⟩
theorem d_LP_apply_120 : j_D jm_LP_apply 120 .iadd 1 121 := ⟨by decide +kernel, rfl⟩
theorem d_LP_apply_121 : j_D jm_LP_apply 121 (.istore_n 3) 1 122 := ⟨by decide +kernel, rfl⟩
theorem d_LP_apply_122 : j_D jm_LP_apply 122 (.iinc 5 1) 3 125 := ⟨by decide +kernel, rfl⟩
theorem d_LP_apply_125 : j_E jm_LP_apply 125 .goto (-91) 128 34 := ⟨by decide +kernel, rfl, by decide⟩
theorem d_LP_apply_128 : j_D jm_LP_apply 128 (.aload_n 0) 1 129 := ⟨by decide +kernel, rfl⟩
theorem d_LP_apply_129 : j_D jm_LP_apply 129 (.aload_n 2) 1 130 := ⟨by decide +kernel, rfl⟩
theorem d_LP_apply_130 : j_D jm_LP_apply 130 (.invokevirtual 221) 3 133 := ⟨by decide +kernel, rfl⟩
theorem d_LP_apply_133 : j_D jm_LP_apply 133 (.aload_n 0) 1 134 := ⟨by decide +kernel, rfl⟩
theorem d_LP_apply_134 : j_D jm_LP_apply 134 (.getfield 73) 3 137 := ⟨by decide +kernel, rfl⟩
theorem d_LP_apply_137 : j_D jm_LP_apply 137 (.invokevirtual 205) 3 140 := ⟨by decide +kernel, rfl⟩
theorem d_LP_apply_140 : j_D jm_LP_apply 140 .ireturn 1 141 := ⟨by decide +kernel, rfl⟩
theorem d_LP_replace_0 : j_D jm_LP_replace 0 (.aload_n 0) 1 1 := ⟨by decide +kernel, rfl⟩
theorem d_LP_replace_1 : j_D jm_LP_replace 1 (.getfield 51) 3 4 := ⟨by decide +kernel, rfl⟩
theorem d_LP_replace_4 : j_D jm_LP_replace 4 (.iconst 0) 1 5 := ⟨by decide +kernel, rfl⟩
theorem d_LP_replace_5 : j_D jm_LP_replace 5 (.putfield 85) 3 8 := ⟨by decide +kernel, rfl⟩
theorem d_LP_replace_8 : j_D jm_LP_replace 8 (.iconst 0) 1 9 := ⟨by decide +kernel, rfl⟩
theorem d_LP_replace_9 : j_D jm_LP_replace 9 (.istore_n 2) 1 10 := ⟨by decide +kernel, rfl⟩
theorem d_LP_replace_10 : j_D jm_LP_replace 10 (.iconst 0) 1 11 := ⟨by decide +kernel, rfl⟩
theorem d_LP_replace_11 : j_D jm_LP_replace 11 (.istore_n 3) 1 12 := ⟨by decide +kernel, rfl⟩
theorem d_LP_replace_12 : j_D jm_LP_replace 12 (.iload_n 3) 1 13 := ⟨by decide +kernel, rfl⟩
theorem d_LP_replace_13 : j_D jm_LP_replace 13 (.aload_n 0) 1 14 := ⟨by decide +kernel, rfl⟩
theorem d_LP_replace_14 : j_D jm_LP_replace 14 (.getfield 73) 3 17 := ⟨by decide +kernel, rfl⟩
theorem d_LP_replace_17 : j_D jm_LP_replace 17 (.invokevirtual 205) 3 20 := ⟨by decide +kernel, rfl⟩
theorem d_LP_replace_20 : j_E jm_LP_replace 20 (.if_icmp .ge) 130 23 150 := ⟨by decide +kernel, rfl, by decide⟩
theorem d_LP_replace_23 : j_D jm_LP_replace 23 (.aload_n 0) 1 24 := ⟨by decide +kernel, rfl⟩
theorem d_LP_replace_24 : j_D jm_LP_replace 24 (.getfield 73) 3 27 := ⟨by decide +kernel, rfl⟩
theorem d_LP_replace_27 : j_D jm_LP_replace 27 (.iload_n 3) 1 28 := ⟨by decide +kernel, rfl⟩
theorem d_LP_replace_28 : j_D jm_LP_replace 28 (.invokevirtual 207) 3 31 := ⟨by decide +kernel, rfl⟩
theorem d_LP_replace_31 : j_D jm_LP_replace 31 (.checkcast 181) 3 34 := ⟨by decide +kernel, rfl⟩
theorem d_LP_replace_34 : j_D jm_LP_replace 34 (.astore 4) 2 36 := ⟨by decide +kernel, rfl⟩
theorem d_LP_replace_36 : j_D jm_LP_replace 36 (.aload_n 0) 1 37 := ⟨by decide +kernel, rfl⟩
theorem d_LP_replace_37 : j_D jm_LP_replace 37 (.getfield 51) 3 40 := ⟨by decide +kernel, rfl⟩
theorem d_LP_replace_40 : j_D jm_LP_replace 40 (.aload_n 1) 1 41 := ⟨by decide +kernel, rfl⟩
theorem d_LP_replace_41 : j_D jm_LP_replace 41 (.iload_n 2) 1 42 := ⟨by decide +kernel, rfl⟩
theorem d_LP_replace_42 : j_D jm_LP_replace 42 (.aload 4) 2 44 := ⟨by decide +kernel, rfl⟩
theorem d_LP_replace_44 : j_D jm_LP_replace 44 (.getfield 215) 3 47 := ⟨by decide +kernel, rfl⟩
theorem d_LP_replace_47 : j_D jm_LP_replace 47 (.invokevirtual 225) 3 50 := ⟨by decide +kernel, rfl⟩
theorem d_LP_replace_50 : j_D jm_LP_replace 50 (.istore 5) 2 52 := ⟨by decide +kernel, rfl⟩
theorem d_LP_replace_52 : j_D jm_LP_replace 52 (.iconst 0) 1 53 := ⟨by decide +kernel, rfl⟩
theorem d_LP_replace_53 : j_D jm_LP_replace 53 (.istore 6) 2 55 := ⟨by decide +kernel, rfl⟩
theorem d_LP_replace_55 : j_D jm_LP_replace 55 (.iload 6) 2 57 := ⟨by decide +kernel, rfl⟩
theorem d_LP_replace_57 : j_D jm_LP_replace 57 (.aload 4) 2 59 := ⟨by decide +kernel, rfl⟩
theorem d_LP_replace_59 : j_D jm_LP_replace 59 (.getfield 185) 3 62 := ⟨by decide +kernel, rfl⟩
theorem d_LP_replace_62 : j_E jm_LP_replace 62 (.if_icmp .ge) 70 65 132 := ⟨by decide +kernel, rfl, by decide⟩
theorem d_LP_replace_65 : j_D jm_LP_replace 65 (.iload 5) 2 67 := ⟨by decide +kernel, rfl⟩
theorem d_LP_replace_67 : j_E jm_LP_replace 67 (.ifCond .eq) 65 70 132 := ⟨by decide +kernel, rfl, by decide⟩
theorem d_LP_replace_70 : j_D jm_LP_replace 70 (.aload 4) 2 72 := ⟨by decide +kernel, rfl⟩
theorem d_LP_replace_72 : j_D jm_LP_replace 72 (.getfield 188) 3 75 := ⟨by decide +kernel, rfl⟩
theorem d_LP_replace_75 : j_D jm_LP_replace 75 (.iconst 3) 1 76 := ⟨by decide +kernel, rfl⟩
theorem d_LP_replace_76 : j_D jm_LP_replace 76 (.iload 6) 2 78 := ⟨by decide +kernel, rfl⟩
theorem d_LP_replace_78 : j_D jm_LP_replace 78 .imul 1 79 := ⟨by decide +kernel, rfl⟩
theorem d_LP_replace_79 : j_D jm_LP_replace 79 .iadd 1 80 := ⟨by decide +kernel, rfl⟩
theorem d_LP_replace_80 : j_D jm_LP_replace 80 (.istore 7) 2 82 := ⟨by decide +kernel, rfl⟩
theorem d_LP_replace_82 : j_D jm_LP_replace 82 (.aload_n 0) 1 83 := ⟨by decide +kernel, rfl⟩
theorem d_LP_replace_83 : j_D jm_LP_replace 83 (.getfield 64) 3 86 := ⟨by decide +kernel, rfl⟩
theorem d_LP_replace_86 : j_D jm_LP_replace 86 (.getfield 161) 3 89 := ⟨by decide +kernel, rfl⟩
theorem d_LP_replace_89 : j_D jm_LP_replace 89 (.iload 7) 2 91 := ⟨by decide +kernel, rfl⟩
theorem d_LP_replace_91 : j_D jm_LP_replace 91 .baload 1 92 := ⟨by decide +kernel, rfl⟩
theorem d_LP_replace_92 : j_D jm_LP_replace 92 (.bipush 45) 2 94 := ⟨by decide +kernel, rfl⟩
theorem d_LP_replace_94 : j_E jm_LP_replace 94 (.if_icmp .eq) 25 97 119 := ⟨by decide +kernel, rfl, by decide⟩
theorem d_LP_replace_97 : j_D jm_LP_replace 97 (.aload_n 0) 1 98 := ⟨by decide +kernel, rfl⟩
theorem d_LP_replace_98 : j_D jm_LP_replace 98 (.getfield 51) 3 101 := ⟨by decide +kernel, rfl⟩
theorem d_LP_replace_101 : j_D jm_LP_replace 101 (.aload_n 0) 1 102 := ⟨by decide +kernel, rfl⟩
theorem d_LP_replace_102 : j_D jm_LP_replace 102 (.getfield 64) 3 105 := ⟨by decide +kernel, rfl⟩
theorem d_LP_replace_105 : j_D jm_LP_replace 105 (.getfield 161) 3 108 := ⟨by decide +kernel, rfl⟩
theorem d_LP_replace_108 : j_D jm_LP_replace 108 (.iload 7) 2 110 := ⟨by decide +kernel, rfl⟩
theorem d_LP_replace_110 : j_D jm_LP_replace 110 (.iconst 1) 1 111 := ⟨by decide +kernel, rfl⟩
theorem d_LP_replace_111 : j_D jm_LP_replace 111 .iadd 1 112 := ⟨by decide +kernel, rfl⟩
theorem d_LP_replace_112 : j_D jm_LP_replace 112 .baload 1 113 := ⟨by decide +kernel, rfl⟩
theorem d_LP_replace_113 : j_D jm_LP_replace 113 (.invokevirtual 89) 3 116 := ⟨by decide +kernel, rfl⟩
theorem d_LP_replace_116 : j_E jm_LP_replace 116 (.ifCond .eq) 7 119 123 := ⟨by decide +kernel, rfl, by decide⟩
theorem d_LP_replace_119 : j_D jm_LP_replace 119 (.iconst 1) 1 120 := ⟨by decide +kernel, rfl⟩
theorem d_LP_replace_120 : j_E jm_LP_replace 120 .goto 4 123 124 := ⟨by decide +kernel, rfl, by decide⟩
theorem d_LP_replace_123 : j_D jm_LP_replace 123 (.iconst 0) 1 124 := ⟨by decide +kernel, rfl⟩
theorem d_LP_replace_124 : j_D jm_LP_replace 124 (.istore 5) 2 126 := ⟨by decide +kernel, rfl⟩
theorem d_LP_replace_126 : j_D jm_LP_replace 126 (.iinc 6 1) 3 129 := ⟨by decide +kernel, rfl⟩
theorem d_LP_replace_129 : j_E jm_LP_replace 129 .goto (-74) 132 55 := ⟨by decide +kernel, rfl, by decide⟩
theorem d_LP_replace_132 : j_D jm_LP_replace 132 (.aload 4) 2 134 := ⟨by decide +kernel, rfl⟩
theorem d_LP_replace_134 : j_D jm_LP_replace 134 (.getfield 215) 3 137 := ⟨by decide +kernel, rfl⟩
theorem d_LP_replace_137 : j_D jm_LP_replace 137 (.aload 4) 2 139 := ⟨by decide +kernel, rfl⟩
theorem d_LP_replace_139 : j_D jm_LP_replace 139 (.getfield 180) 3 142 := ⟨by decide +kernel, rfl⟩
theorem d_LP_replace_142 : j_D jm_LP_replace 142 .iadd 1 143 := ⟨by decide +kernel, rfl⟩
theorem d_LP_replace_143 : j_D jm_LP_replace 143 (.istore_n 2) 1 144 := ⟨by decide +kernel, rfl⟩
theorem d_LP_replace_144 : j_D jm_LP_replace 144 (.iinc 3 1) 3 147 := ⟨by decide +kernel, rfl⟩
theorem d_LP_replace_147 : j_E jm_LP_replace 147 .goto (-135) 150 12 := ⟨by decide +kernel, rfl, by decide⟩
theorem d_LP_replace_150 : j_D jm_LP_replace 150 (.aload_n 0) 1 151 := ⟨by decide +kernel, rfl⟩
theorem d_LP_replace_151 : j_D jm_LP_replace 151 (.getfield 51) 3 154 := ⟨by decide +kernel, rfl⟩
theorem d_LP_replace_154 : j_D jm_LP_replace 154 (.aload_n 1) 1 155 := ⟨by decide +kernel, rfl⟩
theorem d_LP_replace_155 : j_D jm_LP_replace 155 (.iload_n 2) 1 156 := ⟨by decide +kernel, rfl⟩
theorem d_LP_replace_156 : j_D jm_LP_replace 156 (.aload_n 1) 1 157 := ⟨by decide +kernel, rfl⟩
theorem d_LP_replace_157 : j_D jm_LP_replace 157 (.getfield 85) 3 160 := ⟨by decide +kernel, rfl⟩
theorem d_LP_replace_160 : j_D jm_LP_replace 160 (.invokevirtual 225) 3 163 := ⟨by decide +kernel, rfl⟩
theorem d_LP_replace_163 : j_E jm_LP_replace 163 (.ifCond .eq) 11 166 174 := ⟨by decide +kernel, rfl, by decide⟩
theorem d_LP_replace_166 : j_D jm_LP_replace 166 (.aload_n 1) 1 167 := ⟨by decide +kernel, rfl⟩
theorem d_LP_replace_167 : j_D jm_LP_replace 167 (.aload_n 0) 1 168 := ⟨by decide +kernel, rfl⟩
theorem d_LP_replace_168 : j_D jm_LP_replace 168 (.getfield 51) 3 171 := ⟨by decide +kernel, rfl⟩
theorem d_LP_replace_171 : j_D jm_LP_replace 171 (.invokevirtual 229) 3 174 := ⟨by decide +kernel, rfl⟩
theorem d_LP_replace_174 : j_D jm_LP_replace 174 .return_ 1 175 := ⟨by decide +kernel, rfl⟩
theorem d_LP_merge_0 : j_D jm_LP_merge 0 (.aload_n 0) 1 1 := ⟨by decide +kernel, rfl⟩
theorem d_LP_merge_1 : j_D jm_LP_merge 1 (.getfield 15) 3 4 := ⟨by decide +kernel, rfl⟩
theorem d_LP_merge_4 : j_D jm_LP_merge 4 (.iconst 0) 1 5 := ⟨by decide +kernel, rfl⟩
theorem d_LP_merge_5 : j_D jm_LP_merge 5 .aaload 1 6 := ⟨by decide +kernel, rfl⟩
theorem d_LP_merge_6 : j_D jm_LP_merge 6 (.invokevirtual 96) 3 9 := ⟨by decide +kernel, rfl⟩
theorem d_LP_merge_9 : j_E jm_LP_merge 9 (.ifCond .eq) 27 12 36 := ⟨by decide +kernel, rfl, by decide⟩
theorem d_LP_merge_12 : j_D jm_LP_merge 12 (.aload_n 0) 1 13 := ⟨by decide +kernel, rfl⟩
theorem d_LP_merge_13 : j_D jm_LP_merge 13 (.getfield 15) 3 16 := ⟨by decide +kernel, rfl⟩
theorem d_LP_merge_16 : j_D jm_LP_merge 16 (.iconst 1) 1 17 := ⟨by decide +kernel, rfl⟩
theorem d_LP_merge_17 : j_D jm_LP_merge 17 .aaload 1 18 := ⟨by decide +kernel, rfl⟩
theorem d_LP_merge_18 : j_D jm_LP_merge 18 (.invokevirtual 96) 3 21 := ⟨by decide +kernel, rfl⟩
theorem d_LP_merge_21 : j_E jm_LP_merge 21 (.ifCond .eq) 15 24 36 := ⟨by decide +kernel, rfl, by decide⟩
theorem d_LP_merge_24 : j_D jm_LP_merge 24 (.aload_n 0) 1 25 := ⟨by decide +kernel, rfl⟩
theorem d_LP_merge_25 : j_D jm_LP_merge 25 (.getfield 15) 3 28 := ⟨by decide +kernel, rfl⟩
theorem d_LP_merge_28 : j_D jm_LP_merge 28 (.iconst 2) 1 29 := ⟨by decide +kernel, rfl⟩
theorem d_LP_merge_29 : j_D jm_LP_merge 29 .aaload 1 30 := ⟨by decide +kernel, rfl⟩
theorem d_LP_merge_30 : j_D jm_LP_merge 30 (.invokevirtual 96) 3 33 := ⟨by decide +kernel, rfl⟩
theorem d_LP_merge_33 : j_E jm_LP_merge 33 (.ifCond .ne) 6 36 39 := ⟨by decide +kernel, rfl, by decide⟩
theorem d_LP_merge_36 : j_D jm_LP_merge 36 (.bipush (-3)) 2 38 := ⟨by decide +kernel, rfl⟩
theorem d_LP_merge_38 : j_D jm_LP_merge 38 .ireturn 1 39 := ⟨by decide +kernel, rfl⟩
theorem d_LP_merge_39 : j_D jm_LP_merge 39 (.aload_n 0) 1 40 := ⟨by decide +kernel, rfl⟩
theorem d_LP_merge_40 : j_D jm_LP_merge 40 (.getfield 44) 3 43 := ⟨by decide +kernel, rfl⟩
theorem d_LP_merge_43 : j_D jm_LP_merge 43 (.aload_n 0) 1 44 := ⟨by decide +kernel, rfl⟩
theorem d_LP_merge_44 : j_D jm_LP_merge 44 (.getfield 15) 3 47 := ⟨by decide +kernel, rfl⟩
theorem d_LP_merge_47 : j_D jm_LP_merge 47 (.iconst 0) 1 48 := ⟨by decide +kernel, rfl⟩
theorem d_LP_merge_48 : j_D jm_LP_merge 48 .aaload 1 49 := ⟨by decide +kernel, rfl⟩
theorem d_LP_merge_49 : j_D jm_LP_merge 49 (.aload_n 0) 1 50 := ⟨by decide +kernel, rfl⟩
theorem d_LP_merge_50 : j_D jm_LP_merge 50 (.getfield 15) 3 53 := ⟨by decide +kernel, rfl⟩
theorem d_LP_merge_53 : j_D jm_LP_merge 53 (.iconst 1) 1 54 := ⟨by decide +kernel, rfl⟩
theorem d_LP_merge_54 : j_D jm_LP_merge 54 .aaload 1 55 := ⟨by decide +kernel, rfl⟩
theorem d_LP_merge_55 : j_D jm_LP_merge 55 (.invokevirtual 100) 3 58 := ⟨by decide +kernel, rfl⟩
theorem d_LP_merge_58 : j_D jm_LP_merge 58 (.aload_n 0) 1 59 := ⟨by decide +kernel, rfl⟩
theorem d_LP_merge_59 : j_D jm_LP_merge 59 (.getfield 47) 3 62 := ⟨by decide +kernel, rfl⟩
theorem d_LP_merge_62 : j_D jm_LP_merge 62 (.aload_n 0) 1 63 := ⟨by decide +kernel, rfl⟩
theorem d_LP_merge_63 : j_D jm_LP_merge 63 (.getfield 15) 3 66 := ⟨by decide +kernel, rfl⟩
theorem d_LP_merge_66 : j_D jm_LP_merge 66 (.iconst 0) 1 67 := ⟨by decide +kernel, rfl⟩
theorem d_LP_merge_67 : j_D jm_LP_merge 67 .aaload 1 68 := ⟨by decide +kernel, rfl⟩
theorem d_LP_merge_68 : j_D jm_LP_merge 68 (.aload_n 0) 1 69 := ⟨by decide +kernel, rfl⟩
theorem d_LP_merge_69 : j_D jm_LP_merge 69 (.getfield 15) 3 72 := ⟨by decide +kernel, rfl⟩
theorem d_LP_merge_72 : j_D jm_LP_merge 72 (.iconst 2) 1 73 := ⟨by decide +kernel, rfl⟩
theorem d_LP_merge_73 : j_D jm_LP_merge 73 .aaload 1 74 := ⟨by decide +kernel, rfl⟩
theorem d_LP_merge_74 : j_D jm_LP_merge 74 (.invokevirtual 100) 3 77 := ⟨by decide +kernel, rfl⟩
theorem d_LP_merge_77 : j_D jm_LP_merge 77 (.aload_n 0) 1 78 := ⟨by decide +kernel, rfl⟩
theorem d_LP_merge_78 : j_D jm_LP_merge 78 (.getfield 22) 3 81 := ⟨by decide +kernel, rfl⟩
theorem d_LP_merge_81 : j_D jm_LP_merge 81 (.aload_n 0) 1 82 := ⟨by decide +kernel, rfl⟩
theorem d_LP_merge_82 : j_D jm_LP_merge 82 (.getfield 44) 3 85 := ⟨by decide +kernel, rfl⟩
theorem d_LP_merge_85 : j_D jm_LP_merge 85 (.iconst 0) 1 86 := ⟨by decide +kernel, rfl⟩
theorem d_LP_merge_86 : j_D jm_LP_merge 86 (.aload_n 0) 1 87 := ⟨by decide +kernel, rfl⟩
theorem d_LP_merge_87 : j_D jm_LP_merge 87 (.getfield 44) 3 90 := ⟨by decide +kernel, rfl⟩
theorem d_LP_merge_90 : j_D jm_LP_merge 90 (.getfield 104) 3 93 := ⟨by decide +kernel, rfl⟩
theorem d_LP_merge_93 : j_D jm_LP_merge 93 (.getfield 85) 3 96 := ⟨by decide +kernel, rfl⟩
theorem d_LP_merge_96 : j_D jm_LP_merge 96 (.iconst 0) 1 97 := ⟨by decide +kernel, rfl⟩
theorem d_LP_merge_97 : j_D jm_LP_merge 97 (.aload_n 0) 1 98 := ⟨by decide +kernel, rfl⟩
theorem d_LP_merge_98 : j_D jm_LP_merge 98 (.getfield 44) 3 101 := ⟨by decide +kernel, rfl⟩
theorem d_LP_merge_101 : j_D jm_LP_merge 101 (.getfield 107) 3 104 := ⟨by decide +kernel, rfl⟩
theorem d_LP_merge_104 : j_D jm_LP_merge 104 (.getfield 85) 3 107 := ⟨by decide +kernel, rfl⟩
theorem d_LP_merge_107 : j_D jm_LP_merge 107 (.invokeinterface 110 6) 5 112 := ⟨by decide +kernel, rfl⟩
theorem d_LP_merge_112 : j_D jm_LP_merge 112 (.aload_n 0) 1 113 := ⟨by decide +kernel, rfl⟩
theorem d_LP_merge_113 : j_D jm_LP_merge 113 (.getfield 22) 3 116 := ⟨by decide +kernel, rfl⟩
theorem d_LP_merge_116 : j_D jm_LP_merge 116 (.aload_n 0) 1 117 := ⟨by decide +kernel, rfl⟩
theorem d_LP_merge_117 : j_D jm_LP_merge 117 (.getfield 47) 3 120 := ⟨by decide +kernel, rfl⟩
theorem d_LP_merge_120 : j_D jm_LP_merge 120 (.iconst 0) 1 121 := ⟨by decide +kernel, rfl⟩
theorem d_LP_merge_121 : j_D jm_LP_merge 121 (.aload_n 0) 1 122 := ⟨by decide +kernel, rfl⟩
theorem d_LP_merge_122 : j_D jm_LP_merge 122 (.getfield 47) 3 125 := ⟨by decide +kernel, rfl⟩
theorem d_LP_merge_125 : j_D jm_LP_merge 125 (.getfield 104) 3 128 := ⟨by decide +kernel, rfl⟩
theorem d_LP_merge_128 : j_D jm_LP_merge 128 (.getfield 85) 3 131 := ⟨by decide +kernel, rfl⟩
theorem d_LP_merge_131 : j_D jm_LP_merge 131 (.iconst 0) 1 132 := ⟨by decide +kernel, rfl⟩
theorem d_LP_merge_132 : j_D jm_LP_merge 132 (.aload_n 0) 1 133 := ⟨by decide +kernel, rfl⟩
theorem d_LP_merge_133 : j_D jm_LP_merge 133 (.getfield 47) 3 136 := ⟨by decide +kernel, rfl⟩
theorem d_LP_merge_136 : j_D jm_LP_merge 136 (.getfield 107) 3 139 := ⟨by decide +kernel, rfl⟩
theorem d_LP_merge_139 : j_D jm_LP_merge 139 (.getfield 85) 3 142 := ⟨by decide +kernel, rfl⟩
theorem d_LP_merge_142 : j_D jm_LP_merge 142 (.invokeinterface 110 6) 5 147 := ⟨by decide +kernel, rfl⟩
theorem d_LP_merge_147 : j_D jm_LP_merge 147 (.aload_n 0) 1 148 := ⟨by decide +kernel, rfl⟩
theorem d_LP_merge_148 : j_D jm_LP_merge 148 (.getfield 51) 3 151 := ⟨by decide +kernel, rfl⟩
theorem d_LP_merge_151 : j_D jm_LP_merge 151 (.iconst 0) 1 152 := ⟨by decide +kernel, rfl⟩
theorem d_LP_merge_152 : j_D jm_LP_merge 152 (.putfield 85) 3 155 := ⟨by decide +kernel, rfl⟩
theorem d_LP_merge_155 : j_D jm_LP_merge 155 (.iconst 0) 1 156 := ⟨by decide +kernel, rfl⟩
theorem d_LP_merge_156 : j_D jm_LP_merge 156 (.istore_n 1) 1 157 := ⟨by decide +kernel, rfl⟩
theorem d_LP_merge_157 : j_D jm_LP_merge 157 (.iconst 1) 1 158 := ⟨by decide +kernel, rfl⟩
theorem d_LP_merge_158 : j_D jm_LP_merge 158 (.istore_n 2) 1 159 := ⟨by decide +kernel, rfl⟩
theorem d_LP_merge_159 : j_D jm_LP_merge 159 (.iconst 0) 1 160 := ⟨by decide +kernel, rfl⟩
theorem d_LP_merge_160 : j_D jm_LP_merge 160 (.istore_n 3) 1 161 := ⟨by decide +kernel, rfl⟩
theorem d_LP_merge_161 : j_D jm_LP_merge 161 (.iconst 0) 1 162 := ⟨by decide +kernel, rfl⟩
theorem d_LP_merge_162 : j_D jm_LP_merge 162 (.istore 4) 2 164 := ⟨by decide +kernel, rfl⟩
theorem d_LP_merge_164 : j_D jm_LP_merge 164 (.iconst 0) 1 165 := ⟨by decide +kernel, rfl⟩
theorem d_LP_merge_165 : j_D jm_LP_merge 165 (.istore 5) 2 167 := ⟨by decide +kernel, rfl⟩
theorem d_LP_merge_167 : j_D jm_LP_merge 167 (.iconst 0) 1 168 := ⟨by decide +kernel, rfl⟩
theorem d_LP_merge_168 : j_D jm_LP_merge 168 (.istore 6) 2 170 := ⟨by decide +kernel, rfl⟩
theorem d_LP_merge_170 : j_D jm_LP_merge 170 (.iload 6) 2 172 := ⟨by decide +kernel, rfl⟩
theorem d_LP_merge_172 : j_D jm_LP_merge 172 (.aload_n 0) 1 173 := ⟨by decide +kernel, rfl⟩
theorem d_LP_merge_173 : j_D jm_LP_merge 173 (.getfield 15) 3 176 := ⟨by decide +kernel, rfl⟩
theorem d_LP_merge_176 : j_D jm_LP_merge 176 (.iconst 0) 1 177 := ⟨by decide +kernel, rfl⟩
theorem d_LP_merge_177 : j_D jm_LP_merge 177 .aaload 1 178 := ⟨by decide +kernel, rfl⟩
theorem d_LP_merge_178 : j_D jm_LP_merge 178 (.getfield 85) 3 181 := ⟨by decide +kernel, rfl⟩
theorem d_LP_merge_181 : j_E jm_LP_merge 181 (.if_icmp .gt) 243 184 424 := ⟨by decide +kernel, rfl, by decide⟩
theorem d_LP_merge_184 : j_D jm_LP_merge 184 (.iload_n 2) 1 185 := ⟨by decide +kernel, rfl⟩
theorem d_LP_merge_185 : j_E jm_LP_merge 185 (.ifCond .eq) 239 188 424 := ⟨by decide +kernel, rfl, by decide⟩
theorem d_LP_merge_188 : j_D jm_LP_merge 188 (.iload 6) 2 190 := ⟨by decide +kernel, rfl⟩
theorem d_LP_merge_190 : j_D jm_LP_merge 190 (.aload_n 0) 1 191 := ⟨by decide +kernel, rfl⟩
theorem d_LP_merge_191 : j_D jm_LP_merge 191 (.getfield 15) 3 194 := ⟨by decide +kernel, rfl⟩
theorem d_LP_merge_194 : j_D jm_LP_merge 194 (.iconst 0) 1 195 := ⟨by decide +kernel, rfl⟩
theorem d_LP_merge_195 : j_D jm_LP_merge 195 .aaload 1 196 := ⟨by decide +kernel, rfl⟩
theorem d_LP_merge_196 : j_D jm_LP_merge 196 (.getfield 85) 3 199 := ⟨by decide +kernel, rfl⟩
theorem d_LP_merge_199 : j_E jm_LP_merge 199 (.if_icmp .ne) 7 202 206 := ⟨by decide +kernel, rfl, by decide⟩
theorem d_LP_merge_202 : j_D jm_LP_merge 202 (.iconst 1) 1 203 := ⟨by decide +kernel, rfl⟩
theorem d_LP_merge_203 : j_E jm_LP_merge 203 .goto 4 206 207 := ⟨by decide +kernel, rfl, by decide⟩
theorem d_LP_merge_206 : j_D jm_LP_merge 206 (.iconst 0) 1 207 := ⟨by decide +kernel, rfl⟩
theorem d_LP_merge_207 : j_D jm_LP_merge 207 (.istore 7) 2 209 := ⟨by decide +kernel, rfl⟩
theorem d_LP_merge_209 : j_D jm_LP_merge 209 (.iload 7) 2 211 := ⟨by decide +kernel, rfl⟩
theorem d_LP_merge_211 : j_E jm_LP_merge 211 (.ifCond .ne) 29 214 240 := ⟨by decide +kernel, rfl, by decide⟩
theorem d_LP_merge_214 : j_D jm_LP_merge 214 (.aload_n 0) 1 215 := ⟨by decide +kernel, rfl⟩
theorem d_LP_merge_215 : j_D jm_LP_merge 215 (.getfield 44) 3 218 := ⟨by decide +kernel, rfl⟩
theorem d_LP_merge_218 : j_D jm_LP_merge 218 (.getfield 121) 3 221 := ⟨by decide +kernel, rfl⟩
theorem d_LP_merge_221 : j_D jm_LP_merge 221 (.iload 6) 2 223 := ⟨by decide +kernel, rfl⟩
theorem d_LP_merge_223 : j_D jm_LP_merge 223 .baload 1 224 := ⟨by decide +kernel, rfl⟩
theorem d_LP_merge_224 : j_E jm_LP_merge 224 (.ifCond .lt) 194 227 418 := ⟨by decide +kernel, rfl, by decide⟩
theorem d_LP_merge_227 : j_D jm_LP_merge 227 (.aload_n 0) 1 228 := ⟨by decide +kernel, rfl⟩
theorem d_LP_merge_228 : j_D jm_LP_merge 228 (.getfield 47) 3 231 := ⟨by decide +kernel, rfl⟩
theorem d_LP_merge_231 : j_D jm_LP_merge 231 (.getfield 121) 3 234 := ⟨by decide +kernel, rfl⟩
theorem d_LP_merge_234 : j_D jm_LP_merge 234 (.iload 6) 2 236 := ⟨by decide +kernel, rfl⟩
theorem d_LP_merge_236 : j_D jm_LP_merge 236 .baload 1 237 := ⟨by decide +kernel, rfl⟩
theorem d_LP_merge_237 : j_E jm_LP_merge 237 (.ifCond .lt) 181 240 418 := ⟨by decide +kernel, rfl, by decide⟩
theorem d_LP_merge_240 : j_D jm_LP_merge 240 (.iload 7) 2 242 := ⟨by decide +kernel, rfl⟩
theorem d_LP_merge_242 : j_E jm_LP_merge 242 (.ifCond .eq) 15 245 257 := ⟨by decide +kernel, rfl, by decide⟩
theorem d_LP_merge_245 : j_D jm_LP_merge 245 (.aload_n 0) 1 246 := ⟨by decide +kernel, rfl⟩
theorem d_LP_merge_246 : j_D jm_LP_merge 246 (.getfield 15) 3 249 := ⟨by decide +kernel, rfl⟩
theorem d_LP_merge_249 : j_D jm_LP_merge 249 (.iconst 1) 1 250 := ⟨by decide +kernel, rfl⟩
theorem d_LP_merge_250 : j_D jm_LP_merge 250 .aaload 1 251 := ⟨by decide +kernel, rfl⟩
theorem d_LP_merge_251 : j_D jm_LP_merge 251 (.getfield 85) 3 254 := ⟨by decide +kernel, rfl⟩
theorem d_LP_merge_254 : j_E jm_LP_merge 254 .goto 13 257 267 := ⟨by decide +kernel, rfl, by decide⟩
theorem d_LP_merge_257 : j_D jm_LP_merge 257 (.aload_n 0) 1 258 := ⟨by decide +kernel, rfl⟩
theorem d_LP_merge_258 : j_D jm_LP_merge 258 (.getfield 44) 3 261 := ⟨by decide +kernel, rfl⟩
theorem d_LP_merge_261 : j_D jm_LP_merge 261 (.getfield 121) 3 264 := ⟨by decide +kernel, rfl⟩
theorem d_LP_merge_264 : j_D jm_LP_merge 264 (.iload 6) 2 266 := ⟨by decide +kernel, rfl⟩
theorem d_LP_merge_266 : j_D jm_LP_merge 266 .baload 1 267 := ⟨by decide +kernel, rfl⟩
theorem d_LP_merge_267 : j_D jm_LP_merge 267 (.istore 8) 2 269 := ⟨by decide +kernel, rfl⟩
theorem d_LP_merge_269 : j_D jm_LP_merge 269 (.iload 7) 2 271 := ⟨by decide +kernel, rfl⟩
theorem d_LP_merge_271 : j_E jm_LP_merge 271 (.ifCond .eq) 15 274 286 := ⟨by decide +kernel, rfl, by decide⟩
theorem d_LP_merge_274 : j_D jm_LP_merge 274 (.aload_n 0) 1 275 := ⟨by decide +kernel, rfl⟩
theorem d_LP_merge_275 : j_D jm_LP_merge 275 (.getfield 15) 3 278 := ⟨by decide +kernel, rfl⟩
theorem d_LP_merge_278 : j_D jm_LP_merge 278 (.iconst 2) 1 279 := ⟨by decide +kernel, rfl⟩
theorem d_LP_merge_279 : j_D jm_LP_merge 279 .aaload 1 280 := ⟨by decide +kernel, rfl⟩
theorem d_LP_merge_280 : j_D jm_LP_merge 280 (.getfield 85) 3 283 := ⟨by decide +kernel, rfl⟩
theorem d_LP_merge_283 : j_E jm_LP_merge 283 .goto 13 286 296 := ⟨by decide +kernel, rfl, by decide⟩
theorem d_LP_merge_286 : j_D jm_LP_merge 286 (.aload_n 0) 1 287 := ⟨by decide +kernel, rfl⟩
theorem d_LP_merge_287 : j_D jm_LP_merge 287 (.getfield 47) 3 290 := ⟨by decide +kernel, rfl⟩
theorem d_LP_merge_290 : j_D jm_LP_merge 290 (.getfield 121) 3 293 := ⟨by decide +kernel, rfl⟩
theorem d_LP_merge_293 : j_D jm_LP_merge 293 (.iload 6) 2 295 := ⟨by decide +kernel, rfl⟩
theorem d_LP_merge_295 : j_D jm_LP_merge 295 .baload 1 296 := ⟨by decide +kernel, rfl⟩
theorem d_LP_merge_296 : j_D jm_LP_merge 296 (.istore 9) 2 298 := ⟨by decide +kernel, rfl⟩
theorem d_LP_merge_298 : j_D jm_LP_merge 298 (.aload_n 0) 1 299 := ⟨by decide +kernel, rfl⟩
theorem d_LP_merge_299 : j_D jm_LP_merge 299 (.iload_n 3) 1 300 := ⟨by decide +kernel, rfl⟩
theorem d_LP_merge_300 : j_D jm_LP_merge 300 (.iload 6) 2 302 := ⟨by decide +kernel, rfl⟩
theorem d_LP_merge_302 : j_D jm_LP_merge 302 (.iload 4) 2 304 := ⟨by decide +kernel, rfl⟩
theorem d_LP_merge_304 : j_D jm_LP_merge 304 (.iload 8) 2 306 := ⟨by decide +kernel, rfl⟩
theorem d_LP_merge_306 : j_D jm_LP_merge 306 (.iload 5) 2 308 := ⟨by decide +kernel, rfl⟩
theorem d_LP_merge_308 : j_D jm_LP_merge 308 (.iload 9) 2 310 := ⟨by decide +kernel, rfl⟩
theorem d_LP_merge_310 : j_D jm_LP_merge 310 (.invokevirtual 232) 3 313 := ⟨by decide +kernel, rfl⟩
theorem d_LP_merge_313 : j_D jm_LP_merge 313 (.istore 10) 2 315 := ⟨by decide +kernel, rfl⟩
theorem d_LP_merge_315 : j_D jm_LP_merge 315 (.iload_n 1) 1 316 := ⟨by decide +kernel, rfl⟩
theorem d_LP_merge_316 : j_D jm_LP_merge 316 (.iload 10) 2 318 := ⟨by decide +kernel, rfl⟩
theorem d_LP_merge_318 : j_E jm_LP_merge 318 (.ifCond .eq) 7 321 325 := ⟨by decide +kernel, rfl, by decide⟩
theorem d_LP_merge_321 : j_D jm_LP_merge 321 (.iconst 1) 1 322 := ⟨by decide +kernel, rfl⟩
theorem d_LP_merge_322 : j_E jm_LP_merge 322 .goto 4 325 326 := ⟨by decide +kernel, rfl, by decide⟩
theorem d_LP_merge_325 : j_D jm_LP_merge 325 (.iconst 0) 1 326 := ⟨by decide +kernel, rfl⟩
theorem d_LP_merge_326 : j_D jm_LP_merge 326 .iadd 1 327 := ⟨by decide +kernel, rfl⟩
theorem d_LP_merge_327 : j_D jm_LP_merge 327 (.istore_n 1) 1 328 := ⟨by decide +kernel, rfl⟩
theorem d_LP_merge_328 : j_D jm_LP_merge 328 (.iload 10) 2 330 := ⟨by decide +kernel, rfl⟩
theorem d_LP_merge_330 : j_E jm_LP_merge 330 (.ifCond .eq) 18 333 348 := ⟨by decide +kernel, rfl, by decide⟩
theorem d_LP_merge_333 : j_D jm_LP_merge 333 (.aload_n 0) 1 334 := ⟨by decide +kernel, rfl⟩
theorem d_LP_merge_334 : j_D jm_LP_merge 334 (.iload 4) 2 336 := ⟨by decide +kernel, rfl⟩
theorem d_LP_merge_336 : j_D jm_LP_merge 336 (.iload 8) 2 338 := ⟨by decide +kernel, rfl⟩
theorem d_LP_merge_338 : j_D jm_LP_merge 338 (.iload 5) 2 340 := ⟨by decide +kernel, rfl⟩
theorem d_LP_merge_340 : j_D jm_LP_merge 340 (.iload 9) 2 342 := ⟨by decide +kernel, rfl⟩
theorem d_LP_merge_342 : j_D jm_LP_merge 342 (.invokevirtual 236) 3 345 := ⟨by decide +kernel, rfl⟩
theorem d_LP_merge_345 : j_E jm_LP_merge 345 .goto 18 348 363 := ⟨by decide +kernel, rfl, by decide⟩
theorem d_LP_merge_348 : j_D jm_LP_merge 348 (.aload_n 0) 1 349 := ⟨by decide +kernel, rfl⟩
theorem d_LP_merge_349 : j_D jm_LP_merge 349 (.iload_n 3) 1 350 := ⟨by decide +kernel, rfl⟩
theorem d_LP_merge_350 : j_D jm_LP_merge 350 (.iload 6) 2 352 := ⟨by decide +kernel, rfl⟩
theorem d_LP_merge_352 : j_D jm_LP_merge 352 (.iload 4) 2 354 := ⟨by decide +kernel, rfl⟩
theorem d_LP_merge_354 : j_D jm_LP_merge 354 (.iload 8) 2 356 := ⟨by decide +kernel, rfl⟩
theorem d_LP_merge_356 : j_D jm_LP_merge 356 (.iload 5) 2 358 := ⟨by decide +kernel, rfl⟩
theorem d_LP_merge_358 : j_D jm_LP_merge 358 (.iload 9) 2 360 := ⟨by decide +kernel, rfl⟩
theorem d_LP_merge_360 : j_D jm_LP_merge 360 (.invokevirtual 240) 3 363 := ⟨by decide +kernel, rfl⟩
theorem d_LP_merge_363 : j_D jm_LP_merge 363 (.istore_n 2) 1 364 := ⟨by decide +kernel, rfl⟩
theorem d_LP_merge_364 : j_D jm_LP_merge 364 (.iload_n 2) 1 365 := ⟨by decide +kernel, rfl⟩
theorem d_LP_merge_365 : j_E jm_LP_merge 365 (.ifCond .eq) 34 368 399 := ⟨by decide +kernel, rfl, by decide⟩
theorem d_LP_merge_368 : j_D jm_LP_merge 368 (.iload 7) 2 370 := ⟨by decide +kernel, rfl⟩
theorem d_LP_merge_370 : j_E jm_LP_merge 370 (.ifCond .ne) 25 373 395 := ⟨by decide +kernel, rfl, by decide⟩
theorem d_LP_merge_373 : j_D jm_LP_merge 373 (.aload_n 0) 1 374 := ⟨by decide +kernel, rfl⟩
theorem d_LP_merge_374 : j_D jm_LP_merge 374 (.getfield 51) 3 377 := ⟨by decide +kernel, rfl⟩
theorem d_LP_merge_377 : j_D jm_LP_merge 377 (.aload_n 0) 1 378 := ⟨by decide +kernel, rfl⟩
theorem d_LP_merge_378 : j_D jm_LP_merge 378 (.getfield 15) 3 381 := ⟨by decide +kernel, rfl⟩
theorem d_LP_merge_381 : j_D jm_LP_merge 381 (.iconst 0) 1 382 := ⟨by decide +kernel, rfl⟩
theorem d_LP_merge_382 : j_D jm_LP_merge 382 .aaload 1 383 := ⟨by decide +kernel, rfl⟩
theorem d_LP_merge_383 : j_D jm_LP_merge 383 (.getfield 92) 3 386 := ⟨by decide +kernel, rfl⟩
theorem d_LP_merge_386 : j_D jm_LP_merge 386 (.iload 6) 2 388 := ⟨by decide +kernel, rfl⟩
theorem d_LP_merge_388 : j_D jm_LP_merge 388 .baload 1 389 := ⟨by decide +kernel, rfl⟩
theorem d_LP_merge_389 : j_D jm_LP_merge 389 (.invokevirtual 89) 3 392 := ⟨by decide +kernel, rfl⟩
theorem d_LP_merge_392 : j_E jm_LP_merge 392 (.ifCond .eq) 7 395 399 := ⟨by decide +kernel, rfl, by decide⟩
theorem d_LP_merge_395 : j_D jm_LP_merge 395 (.iconst 1) 1 396 := ⟨by decide +kernel, rfl⟩
theorem d_LP_merge_396 : j_E jm_LP_merge 396 .goto 4 399 400 := ⟨by decide +kernel, rfl, by decide⟩
theorem d_LP_merge_399 : j_D jm_LP_merge 399 (.iconst 0) 1 400 := ⟨by decide +kernel, rfl⟩
theorem d_LP_merge_400 : j_D jm_LP_merge 400 (.istore_n 2) 1 401 := ⟨by decide +kernel, rfl⟩
theorem d_LP_merge_401 : j_D jm_LP_merge 401 (.iload 6) 2 403 := ⟨by decide +kernel, rfl⟩
theorem d_LP_merge_403 : j_D jm_LP_merge 403 (.iconst 1) 1 404 := ⟨by decide +kernel, rfl⟩
theorem d_LP_merge_404 : j_D jm_LP_merge 404 .iadd 1 405 := ⟨by decide +kernel, rfl⟩
theorem d_LP_merge_405 : j_D jm_LP_merge 405 (.istore_n 3) 1 406 := ⟨by decide +kernel, rfl⟩
theorem d_LP_merge_406 : j_D jm_LP_merge 406 (.iload 8) 2 408 := ⟨by decide +kernel, rfl⟩
theorem d_LP_merge_408 : j_D jm_LP_merge 408 (.iconst 1) 1 409 := ⟨by decide +kernel, rfl⟩
theorem d_LP_merge_409 : j_D jm_LP_merge 409 .iadd 1 410 := ⟨by decide +kernel, rfl⟩
theorem d_LP_merge_410 : j_D jm_LP_merge 410 (.istore 4) 2 412 := ⟨by decide +kernel, rfl⟩
theorem d_LP_merge_412 : j_D jm_LP_merge 412 (.iload 9) 2 414 := ⟨by decide +kernel, rfl⟩
theorem d_LP_merge_414 : j_D jm_LP_merge 414 (.iconst 1) 1 415 := ⟨by decide +kernel, rfl⟩
theorem d_LP_merge_415 : j_D jm_LP_merge 415 .iadd 1 416 := ⟨by decide +kernel, rfl⟩
theorem d_LP_merge_416 : j_D jm_LP_merge 416 (.istore 5) 2 418 := ⟨by decide +kernel, rfl⟩
theorem d_LP_merge_418 : j_D jm_LP_merge 418 (.iinc 6 1) 3 421 := ⟨by decide +kernel, rfl⟩
theorem d_LP_merge_421 : j_E jm_LP_merge 421 .goto (-251) 424 170 := ⟨by decide +kernel, rfl, by decide⟩
theorem d_LP_merge_424 : j_D jm_LP_merge 424 (.iload_n 2) 1 425 := ⟨by decide +kernel, rfl⟩
theorem d_LP_merge_425 : j_E jm_LP_merge 425 (.ifCond .ne) 6 428 431 := ⟨by decide +kernel, rfl, by decide⟩
theorem d_LP_merge_428 : j_D jm_LP_merge 428 (.bipush (-2)) 2 430 := ⟨by decide +kernel, rfl⟩
theorem d_LP_merge_430 : j_D jm_LP_merge 430 .ireturn 1 431 := ⟨by decide +kernel, rfl⟩
theorem d_LP_merge_431 : j_D jm_LP_merge 431 (.aload_n 0) 1 432 := ⟨by decide +kernel, rfl⟩
theorem d_LP_merge_432 : j_D jm_LP_merge 432 (.getfield 15) 3 435 := ⟨by decide +kernel, rfl⟩
theorem d_LP_merge_435 : j_D jm_LP_merge 435 (.iconst 3) 1 436 := ⟨by decide +kernel, rfl⟩
theorem d_LP_merge_436 : j_D jm_LP_merge 436 .aaload 1 437 := ⟨by decide +kernel, rfl⟩
theorem d_LP_merge_437 : j_D jm_LP_merge 437 (.aload_n 0) 1 438 := ⟨by decide +kernel, rfl⟩
theorem d_LP_merge_438 : j_D jm_LP_merge 438 (.getfield 51) 3 441 := ⟨by decide +kernel, rfl⟩
theorem d_LP_merge_441 : j_D jm_LP_merge 441 (.invokevirtual 229) 3 444 := ⟨by decide +kernel, rfl⟩
theorem d_LP_merge_444 : j_D jm_LP_merge 444 (.iload_n 1) 1 445 := ⟨by decide +kernel, rfl⟩
theorem d_LP_merge_445 : j_D jm_LP_merge 445 .ireturn 1 446 := ⟨by decide +kernel, rfl⟩
theorem d_LP_clash_0 : j_D jm_LP_clash 0 (.aload_n 0) 1 1 := ⟨by decide +kernel, rfl⟩
theorem d_LP_clash_1 : j_D jm_LP_clash 1 (.getfield 15) 3 4 := ⟨by decide +kernel, rfl⟩
theorem d_LP_clash_4 : j_D jm_LP_clash 4 (.iconst 0) 1 5 := ⟨by decide +kernel, rfl⟩
theorem d_LP_clash_5 : j_D jm_LP_clash 5 .aaload 1 6 := ⟨by decide +kernel, rfl⟩
theorem d_LP_clash_6 : j_D jm_LP_clash 6 (.astore 7) 2 8 := ⟨by decide +kernel, rfl⟩
theorem d_LP_clash_8 : j_D jm_LP_clash 8 (.aload 7) 2 10 := ⟨by decide +kernel, rfl⟩
theorem d_LP_clash_10 : j_D jm_LP_clash 10 (.iload_n 1) 1 11 := ⟨by decide +kernel, rfl⟩
theorem d_LP_clash_11 : j_D jm_LP_clash 11 (.iload_n 2) 1 12 := ⟨by decide +kernel, rfl⟩
theorem d_LP_clash_12 : j_D jm_LP_clash 12 (.aload_n 0) 1 13 := ⟨by decide +kernel, rfl⟩
theorem d_LP_clash_13 : j_D jm_LP_clash 13 (.getfield 15) 3 16 := ⟨by decide +kernel, rfl⟩
theorem d_LP_clash_16 : j_D jm_LP_clash 16 (.iconst 1) 1 17 := ⟨by decide +kernel, rfl⟩
theorem d_LP_clash_17 : j_D jm_LP_clash 17 .aaload 1 18 := ⟨by decide +kernel, rfl⟩
theorem d_LP_clash_18 : j_D jm_LP_clash 18 (.iload_n 3) 1 19 := ⟨by decide +kernel, rfl⟩
theorem d_LP_clash_19 : j_D jm_LP_clash 19 (.iload 4) 2 21 := ⟨by decide +kernel, rfl⟩
theorem d_LP_clash_21 : j_D jm_LP_clash 21 (.invokevirtual 243) 3 24 := ⟨by decide +kernel, rfl⟩
theorem d_LP_clash_24 : j_D jm_LP_clash 24 (.istore 8) 2 26 := ⟨by decide +kernel, rfl⟩
theorem d_LP_clash_26 : j_D jm_LP_clash 26 (.aload 7) 2 28 := ⟨by decide +kernel, rfl⟩
theorem d_LP_clash_28 : j_D jm_LP_clash 28 (.iload_n 1) 1 29 := ⟨by decide +kernel, rfl⟩
theorem d_LP_clash_29 : j_D jm_LP_clash 29 (.iload_n 2) 1 30 := ⟨by decide +kernel, rfl⟩
theorem d_LP_clash_30 : j_D jm_LP_clash 30 (.aload_n 0) 1 31 := ⟨by decide +kernel, rfl⟩
theorem d_LP_clash_31 : j_D jm_LP_clash 31 (.getfield 15) 3 34 := ⟨by decide +kernel, rfl⟩
theorem d_LP_clash_34 : j_D jm_LP_clash 34 (.iconst 2) 1 35 := ⟨by decide +kernel, rfl⟩
theorem d_LP_clash_35 : j_D jm_LP_clash 35 .aaload 1 36 := ⟨by decide +kernel, rfl⟩
theorem d_LP_clash_36 : j_D jm_LP_clash 36 (.iload 5) 2 38 := ⟨by decide +kernel, rfl⟩
theorem d_LP_clash_38 : j_D jm_LP_clash 38 (.iload 6) 2 40 := ⟨by decide +kernel, rfl⟩
theorem d_LP_clash_40 : j_D jm_LP_clash 40 (.invokevirtual 243) 3 43 := ⟨by decide +kernel, rfl⟩
theorem d_LP_clash_43 : j_D jm_LP_clash 43 (.istore 9) 2 45 := ⟨by decide +kernel, rfl⟩
theorem d_LP_clash_45 : j_D jm_LP_clash 45 (.iload 8) 2 47 := ⟨by decide +kernel, rfl⟩
theorem d_LP_clash_47 : j_E jm_LP_clash 47 (.ifCond .ne) 37 50 84 := ⟨by decide +kernel, rfl, by decide⟩
theorem d_LP_clash_50 : j_D jm_LP_clash 50 (.iload 9) 2 52 := ⟨by decide +kernel, rfl⟩
theorem d_LP_clash_52 : j_E jm_LP_clash 52 (.ifCond .ne) 32 55 84 := ⟨by decide +kernel, rfl, by decide⟩
theorem d_LP_clash_55 : j_D jm_LP_clash 55 (.aload_n 0) 1 56 := ⟨by decide +kernel, rfl⟩
theorem d_LP_clash_56 : j_D jm_LP_clash 56 (.getfield 15) 3 59 := ⟨by decide +kernel, rfl⟩
theorem d_LP_clash_59 : j_D jm_LP_clash 59 (.iconst 1) 1 60 := ⟨by decide +kernel, rfl⟩
theorem d_LP_clash_60 : j_D jm_LP_clash 60 .aaload 1 61 := ⟨by decide +kernel, rfl⟩
theorem d_LP_clash_61 : j_D jm_LP_clash 61 (.iload_n 3) 1 62 := ⟨by decide +kernel, rfl⟩
theorem d_LP_clash_62 : j_D jm_LP_clash 62 (.iload 4) 2 64 := ⟨by decide +kernel, rfl⟩
theorem d_LP_clash_64 : j_D jm_LP_clash 64 (.aload_n 0) 1 65 := ⟨by decide +kernel, rfl⟩
theorem d_LP_clash_65 : j_D jm_LP_clash 65 (.getfield 15) 3 68 := ⟨by decide +kernel, rfl⟩
theorem d_LP_clash_68 : j_D jm_LP_clash 68 (.iconst 2) 1 69 := ⟨by decide +kernel, rfl⟩
theorem d_LP_clash_69 : j_D jm_LP_clash 69 .aaload 1 70 := ⟨by decide +kernel, rfl⟩
theorem d_LP_clash_70 : j_D jm_LP_clash 70 (.iload 5) 2 72 := ⟨by decide +kernel, rfl⟩
theorem d_LP_clash_72 : j_D jm_LP_clash 72 (.iload 6) 2 74 := ⟨by decide +kernel, rfl⟩
theorem d_LP_clash_74 : j_D jm_LP_clash 74 (.invokevirtual 243) 3 77 := ⟨by decide +kernel, rfl⟩
theorem d_LP_clash_77 : j_E jm_LP_clash 77 (.ifCond .ne) 7 80 84 := ⟨by decide +kernel, rfl, by decide⟩
theorem d_LP_clash_80 : j_D jm_LP_clash 80 (.iconst 1) 1 81 := ⟨by decide +kernel, rfl⟩
theorem d_LP_clash_81 : j_E jm_LP_clash 81 .goto 4 84 85 := ⟨by decide +kernel, rfl, by decide⟩
theorem d_LP_clash_84 : j_D jm_LP_clash 84 (.iconst 0) 1 85 := ⟨by decide +kernel, rfl⟩
theorem d_LP_clash_85 : j_D jm_LP_clash 85 .ireturn 1 86 := ⟨by decide +kernel, rfl⟩
theorem d_LP_putClash_0 : j_D jm_LP_putClash 0 (.aload_n 0) 1 1 := ⟨by decide +kernel, rfl⟩
theorem d_LP_putClash_1 : j_D jm_LP_putClash 1 (.getfield 51) 3 4 := ⟨by decide +kernel, rfl⟩
theorem d_LP_putClash_4 : j_D jm_LP_putClash 4 (.bipush 60) 2 6 := ⟨by decide +kernel, rfl⟩
theorem d_LP_putClash_6 : j_D jm_LP_putClash 6 (.invokevirtual 89) 3 9 := ⟨by decide +kernel, rfl⟩
theorem d_LP_putClash_9 : j_E jm_LP_putClash 9 (.ifCond .eq) 37 12 46 := ⟨by decide +kernel, rfl, by decide⟩
theorem d_LP_putClash_12 : j_D jm_LP_putClash 12 (.aload_n 0) 1 13 := ⟨by decide +kernel, rfl⟩
theorem d_LP_putClash_13 : j_D jm_LP_putClash 13 (.getfield 51) 3 16 := ⟨by decide +kernel, rfl⟩
theorem d_LP_putClash_16 : j_D jm_LP_putClash 16 (.aload_n 0) 1 17 := ⟨by decide +kernel, rfl⟩
theorem d_LP_putClash_17 : j_D jm_LP_putClash 17 (.getfield 15) 3 20 := ⟨by decide +kernel, rfl⟩
theorem d_LP_putClash_20 : j_D jm_LP_putClash 20 (.iconst 1) 1 21 := ⟨by decide +kernel, rfl⟩
theorem d_LP_putClash_21 : j_D jm_LP_putClash 21 .aaload 1 22 := ⟨by decide +kernel, rfl⟩
theorem d_LP_putClash_22 : j_D jm_LP_putClash 22 (.iload_n 1) 1 23 := ⟨by decide +kernel, rfl⟩
theorem d_LP_putClash_23 : j_D jm_LP_putClash 23 (.iload_n 2) 1 24 := ⟨by decide +kernel, rfl⟩
theorem d_LP_putClash_24 : j_D jm_LP_putClash 24 (.invokevirtual 225) 3 27 := ⟨by decide +kernel, rfl⟩
theorem d_LP_putClash_27 : j_E jm_LP_putClash 27 (.ifCond .eq) 19 30 46 := ⟨by decide +kernel, rfl, by decide⟩
theorem d_LP_putClash_30 : j_D jm_LP_putClash 30 (.aload_n 0) 1 31 := ⟨by decide +kernel, rfl⟩
theorem d_LP_putClash_31 : j_D jm_LP_putClash 31 (.getfield 51) 3 34 := ⟨by decide +kernel, rfl⟩
theorem d_LP_putClash_34 : j_D jm_LP_putClash 34 (.bipush 61) 2 36 := ⟨by decide +kernel, rfl⟩
theorem d_LP_putClash_36 : j_D jm_LP_putClash 36 (.invokevirtual 89) 3 39 := ⟨by decide +kernel, rfl⟩
theorem d_LP_putClash_39 : j_E jm_LP_putClash 39 (.ifCond .eq) 7 42 46 := ⟨by decide +kernel, rfl, by decide⟩
theorem d_LP_putClash_42 : j_D jm_LP_putClash 42 (.iconst 1) 1 43 := ⟨by decide +kernel, rfl⟩
theorem d_LP_putClash_43 : j_E jm_LP_putClash 43 .goto 4 46 47 := ⟨by decide +kernel, rfl, by decide⟩
theorem d_LP_putClash_46 : j_D jm_LP_putClash 46 (.iconst 0) 1 47 := ⟨by decide +kernel, rfl⟩
theorem d_LP_putClash_47 : j_D jm_LP_putClash 47 (.istore 5) 2 49 := ⟨by decide +kernel, rfl⟩
theorem d_LP_putClash_49 : j_D jm_LP_putClash 49 (.iload 5) 2 51 := ⟨by decide +kernel, rfl⟩
theorem d_LP_putClash_51 : j_E jm_LP_putClash 51 (.ifCond .eq) 38 54 89 := ⟨by decide +kernel, rfl, by decide⟩
theorem d_LP_putClash_54 : j_D jm_LP_putClash 54 (.aload_n 0) 1 55 := ⟨by decide +kernel, rfl⟩
theorem d_LP_putClash_55 : j_D jm_LP_putClash 55 (.getfield 51) 3 58 := ⟨by decide +kernel, rfl⟩
theorem d_LP_putClash_58 : j_D jm_LP_putClash 58 (.aload_n 0) 1 59 := ⟨by decide +kernel, rfl⟩
theorem d_LP_putClash_59 : j_D jm_LP_putClash 59 (.getfield 15) 3 62 := ⟨by decide +kernel, rfl⟩
theorem d_LP_putClash_62 : j_D jm_LP_putClash 62 (.iconst 2) 1 63 := ⟨by decide +kernel, rfl⟩
theorem d_LP_putClash_63 : j_D jm_LP_putClash 63 .aaload 1 64 := ⟨by decide +kernel, rfl⟩
theorem d_LP_putClash_64 : j_D jm_LP_putClash 64 (.iload_n 3) 1 65 := ⟨by decide +kernel, rfl⟩
theorem d_LP_putClash_65 : j_D jm_LP_putClash 65 (.iload 4) 2 67 := ⟨by decide +kernel, rfl⟩
theorem d_LP_putClash_67 : j_D jm_LP_putClash 67 (.invokevirtual 225) 3 70 := ⟨by decide +kernel, rfl⟩
theorem d_LP_putClash_70 : j_E jm_LP_putClash 70 (.ifCond .eq) 19 73 89 := ⟨by decide +kernel, rfl, by decide⟩
theorem d_LP_putClash_73 : j_D jm_LP_putClash 73 (.aload_n 0) 1 74 := ⟨by decide +kernel, rfl⟩
theorem d_LP_putClash_74 : j_D jm_LP_putClash 74 (.getfield 51) 3 77 := ⟨by decide +kernel, rfl⟩
theorem d_LP_putClash_77 : j_D jm_LP_putClash 77 (.bipush 62) 2 79 := ⟨by decide +kernel, rfl⟩
theorem d_LP_putClash_79 : j_D jm_LP_putClash 79 (.invokevirtual 89) 3 82 := ⟨by decide +kernel, rfl⟩
theorem d_LP_putClash_82 : j_E jm_LP_putClash 82 (.ifCond .eq) 7 85 89 := ⟨by decide +kernel, rfl, by decide⟩
theorem d_LP_putClash_85 : j_D jm_LP_putClash 85 (.iconst 1) 1 86 := ⟨by decide +kernel, rfl⟩
theorem d_LP_putClash_86 : j_E jm_LP_putClash 86 .goto 4 89 90 := ⟨by decide +kernel, rfl, by decide⟩
theorem d_LP_putClash_89 : j_D jm_LP_putClash 89 (.iconst 0) 1 90 := ⟨by decide +kernel, rfl⟩
theorem d_LP_putClash_90 : j_D jm_LP_putClash 90 .ireturn 1 91 := ⟨by decide +kernel, rfl⟩
theorem d_LP_putPart_0 : j_D jm_LP_putPart 0 (.aload_n 0) 1 1 := ⟨by decide +kernel, rfl⟩
theorem d_LP_putPart_1 : j_D jm_LP_putPart 1 (.getfield 15) 3 4 := ⟨by decide +kernel, rfl⟩
theorem d_LP_putPart_4 : j_D jm_LP_putPart 4 (.iconst 0) 1 5 := ⟨by decide +kernel, rfl⟩
theorem d_LP_putPart_5 : j_D jm_LP_putPart 5 .aaload 1 6 := ⟨by decide +kernel, rfl⟩
theorem d_LP_putPart_6 : j_D jm_LP_putPart 6 (.iload_n 1) 1 7 := ⟨by decide +kernel, rfl⟩
theorem d_LP_putPart_7 : j_D jm_LP_putPart 7 (.iload_n 2) 1 8 := ⟨by decide +kernel, rfl⟩
theorem d_LP_putPart_8 : j_D jm_LP_putPart 8 (.aload_n 0) 1 9 := ⟨by decide +kernel, rfl⟩
theorem d_LP_putPart_9 : j_D jm_LP_putPart 9 (.getfield 15) 3 12 := ⟨by decide +kernel, rfl⟩
theorem d_LP_putPart_12 : j_D jm_LP_putPart 12 (.iconst 1) 1 13 := ⟨by decide +kernel, rfl⟩
theorem d_LP_putPart_13 : j_D jm_LP_putPart 13 .aaload 1 14 := ⟨by decide +kernel, rfl⟩
theorem d_LP_putPart_14 : j_D jm_LP_putPart 14 (.iload_n 3) 1 15 := ⟨by decide +kernel, rfl⟩
theorem d_LP_putPart_15 : j_D jm_LP_putPart 15 (.iload 4) 2 17 := ⟨by decide +kernel, rfl⟩
theorem d_LP_putPart_17 : j_D jm_LP_putPart 17 (.invokevirtual 243) 3 20 := ⟨by decide +kernel, rfl⟩
theorem d_LP_putPart_20 : j_E jm_LP_putPart 20 (.ifCond .eq) 23 23 43 := ⟨by decide +kernel, rfl, by decide⟩
theorem d_LP_putPart_23 : j_D jm_LP_putPart 23 (.aload_n 0) 1 24 := ⟨by decide +kernel, rfl⟩
theorem d_LP_putPart_24 : j_D jm_LP_putPart 24 (.getfield 51) 3 27 := ⟨by decide +kernel, rfl⟩
theorem d_LP_putPart_27 : j_D jm_LP_putPart 27 (.aload_n 0) 1 28 := ⟨by decide +kernel, rfl⟩
theorem d_LP_putPart_28 : j_D jm_LP_putPart 28 (.getfield 15) 3 31 := ⟨by decide +kernel, rfl⟩
theorem d_LP_putPart_31 : j_D jm_LP_putPart 31 (.iconst 2) 1 32 := ⟨by decide +kernel, rfl⟩
theorem d_LP_putPart_32 : j_D jm_LP_putPart 32 .aaload 1 33 := ⟨by decide +kernel, rfl⟩
theorem d_LP_putPart_33 : j_D jm_LP_putPart 33 (.iload 5) 2 35 := ⟨by decide +kernel, rfl⟩
theorem d_LP_putPart_35 : j_D jm_LP_putPart 35 (.iload 6) 2 37 := ⟨by decide +kernel, rfl⟩
theorem d_LP_putPart_37 : j_D jm_LP_putPart 37 (.invokevirtual 225) 3 40 := ⟨by decide +kernel, rfl⟩
theorem d_LP_putPart_40 : j_E jm_LP_putPart 40 .goto 19 43 59 := ⟨by decide +kernel, rfl, by decide⟩
theorem d_LP_putPart_43 : j_D jm_LP_putPart 43 (.aload_n 0) 1 44 := ⟨by decide +kernel, rfl⟩
theorem d_LP_putPart_44 : j_D jm_LP_putPart 44 (.getfield 51) 3 47 := ⟨by decide +kernel, rfl⟩
theorem d_LP_putPart_47 : j_D jm_LP_putPart 47 (.aload_n 0) 1 48 := ⟨by decide +kernel, rfl⟩
theorem d_LP_putPart_48 : j_D jm_LP_putPart 48 (.getfield 15) 3 51 := ⟨by decide +kernel, rfl⟩
theorem d_LP_putPart_51 : j_D jm_LP_putPart 51 (.iconst 1) 1 52 := ⟨by decide +kernel, rfl⟩
theorem d_LP_putPart_52 : j_D jm_LP_putPart 52 .aaload 1 53 := ⟨by decide +kernel, rfl⟩
theorem d_LP_putPart_53 : j_D jm_LP_putPart 53 (.iload_n 3) 1 54 := ⟨by decide +kernel, rfl⟩
theorem d_LP_putPart_54 : j_D jm_LP_putPart 54 (.iload 4) 2 56 := ⟨by decide +kernel, rfl⟩
theorem d_LP_putPart_56 : j_D jm_LP_putPart 56 (.invokevirtual 225) 3 59 := ⟨by decide +kernel, rfl⟩
theorem d_LP_putPart_59 : j_D jm_LP_putPart 59 .ireturn 1 60 := ⟨by decide +kernel, rfl⟩
theorem f_LP_73 : j_F "LinePatcher" 73 0 11 11 true := ⟨rfl, _, "LinePatcher", rfl, by decide, rfl, Or.inl (by decide +kernel), Or.inl rfl⟩
theorem lc_AL_clear : j_Lc jm_AL_clear 0 := ⟨by decide +kernel, by decide +kernel, by decide, by decide +kernel, by decide⟩
theorem c_LP_162 : j_Lv "LinePatcher" 162 9 jm_AL_clear 0 := ⟨by decide +kernel, by decide +kernel, ⟨_, rfl, by decide +kernel⟩, lc_AL_clear⟩
theorem f_LP_165 : j_F "LinePatcher" 165 7 2 2 false := ⟨rfl, _, "LinePatcher$Paper", rfl, by decide, rfl, Or.inr ⟨"LinePatcher", by decide +kernel⟩, Or.inl rfl⟩
theorem lc_Pp_readHunk : j_Lc jm_Pp_readHunk 0 := ⟨by decide +kernel, by decide +kernel, by decide, by decide +kernel, by decide⟩
theorem c_LP_168 : j_Lv "LinePatcher" 168 7 jm_Pp_readHunk 0 := ⟨by decide +kernel, by decide +kernel, ⟨_, rfl, by decide +kernel⟩, lc_Pp_readHunk⟩
theorem lc_AL_add1 : j_Lc jm_AL_add1 1 := ⟨by decide +kernel, by decide +kernel, by decide, by decide +kernel, by decide⟩
theorem c_LP_172 : j_Lv "LinePatcher" 172 9 jm_AL_add1 1 := ⟨by decide +kernel, by decide +kernel, ⟨_, rfl, by decide +kernel⟩, lc_AL_add1⟩
theorem lc_LP_readAll : j_Lc jm_LP_readAll 0 := ⟨by decide +kernel, by decide +kernel, by decide, by decide +kernel, by decide⟩
theorem c_LP_175 : j_Lv "LinePatcher" 175 0 jm_LP_readAll 0 := ⟨by decide +kernel, by decide +kernel, ⟨_, rfl, by decide +kernel⟩, lc_LP_readAll⟩
theorem f_LP_180 : j_F "LinePatcher" 180 6 1 1 false := ⟨rfl, _, "LinePatcher$Hunk", rfl, by decide, rfl, Or.inr ⟨"LinePatcher", by decide +kernel⟩, Or.inl rfl⟩
theorem f_LP_185 : j_F "LinePatcher" 185 6 4 4 false := ⟨rfl, _, "LinePatcher$Hunk", rfl, by decide, rfl, Or.inr ⟨"LinePatcher", by decide +kernel⟩, Or.inl rfl⟩
theorem f_LP_188 : j_F "LinePatcher" 188 6 3 3 false := ⟨rfl, _, "LinePatcher$Hunk", rfl, by decide, rfl, Or.inr ⟨"LinePatcher", by decide +kernel⟩, Or.inl rfl⟩
theorem f_LP_191 : j_F "LinePatcher" 191 6 0 0 false := ⟨rfl, _, "LinePatcher$Hunk", rfl, by decide, rfl, Or.inr ⟨"LinePatcher", by decide +kernel⟩, Or.inl rfl⟩
theorem lc_Ma_abs : j_Lc jm_Ma_abs 1 := ⟨by decide +kernel, by decide +kernel, by decide, by decide +kernel, by decide⟩
theorem c_LP_194 : j_Ls "LinePatcher" 194 jm_Ma_abs 1 := ⟨Or.inl (by decide +kernel), by decide +kernel, rfl, lc_Ma_abs⟩
theorem lc_LP_stands : j_Lc jm_LP_stands 3 := ⟨by decide +kernel, by decide +kernel, by decide, by decide +kernel, by decide⟩
theorem c_LP_198 : j_Lv "LinePatcher" 198 0 jm_LP_stands 3 := ⟨by decide +kernel, by decide +kernel, ⟨_, rfl, by decide +kernel⟩, lc_LP_stands⟩
theorem lc_LP_read : j_Lc jm_LP_read 0 := ⟨by decide +kernel, by decide +kernel, by decide, by decide +kernel, by decide⟩
theorem c_LP_202 : j_Lv "LinePatcher" 202 0 jm_LP_read 0 := ⟨by decide +kernel, by decide +kernel, ⟨_, rfl, by decide +kernel⟩, lc_LP_read⟩
theorem lc_AL_size : j_Lc jm_AL_size 0 := ⟨by decide +kernel, by decide +kernel, by decide, by decide +kernel, by decide⟩
theorem c_LP_205 : j_Lv "LinePatcher" 205 9 jm_AL_size 0 := ⟨by decide +kernel, by decide +kernel, ⟨_, rfl, by decide +kernel⟩, lc_AL_size⟩
theorem lc_AL_get : j_Lc jm_AL_get 1 := ⟨by decide +kernel, by decide +kernel, by decide, by decide +kernel, by decide⟩
theorem c_LP_207 : j_Lv "LinePatcher" 207 9 jm_AL_get 1 := ⟨by decide +kernel, by decide +kernel, ⟨_, rfl, by decide +kernel⟩, lc_AL_get⟩
theorem lc_LP_find : j_Lc jm_LP_find 3 := ⟨by decide +kernel, by decide +kernel, by decide, by decide +kernel, by decide⟩
theorem c_LP_211 : j_Lv "LinePatcher" 211 0 jm_LP_find 3 := ⟨by decide +kernel, by decide +kernel, ⟨_, rfl, by decide +kernel⟩, lc_LP_find⟩
theorem f_LP_215 : j_F "LinePatcher" 215 6 5 5 false := ⟨rfl, _, "LinePatcher$Hunk", rfl, by decide, rfl, Or.inr ⟨"LinePatcher", by decide +kernel⟩, Or.inl rfl⟩
theorem f_LP_218 : j_F "LinePatcher" 218 6 2 2 false := ⟨rfl, _, "LinePatcher$Hunk", rfl, by decide, rfl, Or.inr ⟨"LinePatcher", by decide +kernel⟩, Or.inl rfl⟩
theorem lc_LP_replace : j_Lc jm_LP_replace 1 := ⟨by decide +kernel, by decide +kernel, by decide, by decide +kernel, by decide⟩
theorem c_LP_221 : j_Lv "LinePatcher" 221 0 jm_LP_replace 1 := ⟨by decide +kernel, by decide +kernel, ⟨_, rfl, by decide +kernel⟩, lc_LP_replace⟩
theorem f_LP_51 : j_F "LinePatcher" 51 0 6 6 true := ⟨rfl, _, "LinePatcher", rfl, by decide, rfl, Or.inl (by decide +kernel), Or.inl rfl⟩
theorem lc_Tx_addAll : j_Lc jm_Tx_addAll 3 := ⟨by decide +kernel, by decide +kernel, by decide, by decide +kernel, by decide⟩
theorem c_LP_225 : j_Lv "LinePatcher" 225 1 jm_Tx_addAll 3 := ⟨by decide +kernel, by decide +kernel, ⟨_, rfl, by decide +kernel⟩, lc_Tx_addAll⟩
theorem c_LP_229 : j_Lv "LinePatcher" 229 1 jm_Tx_copy 1 := ⟨by decide +kernel, by decide +kernel, ⟨_, rfl, by decide +kernel⟩, lc_Tx_copy⟩
theorem f_LP_44 : j_F "LinePatcher" 44 0 4 4 true := ⟨rfl, _, "LinePatcher", rfl, by decide, rfl, Or.inl (by decide +kernel), Or.inl rfl⟩
theorem f_LP_47 : j_F "LinePatcher" 47 0 5 5 true := ⟨rfl, _, "LinePatcher", rfl, by decide, rfl, Or.inl (by decide +kernel), Or.inl rfl⟩
theorem f_LP_22 : j_F "LinePatcher" 22 0 1 1 true := ⟨rfl, _, "LinePatcher", rfl, by decide, rfl, Or.inl (by decide +kernel), Or.inl rfl⟩
theorem lc_LP_clash : j_Lc jm_LP_clash 6 := ⟨by decide +kernel, by decide +kernel, by decide, by decide +kernel, by decide⟩
theorem c_LP_232 : j_Lv "LinePatcher" 232 0 jm_LP_clash 6 := ⟨by decide +kernel, by decide +kernel, ⟨_, rfl, by decide +kernel⟩, lc_LP_clash⟩
theorem lc_LP_putClash : j_Lc jm_LP_putClash 4 := ⟨by decide +kernel, by decide +kernel, by decide, by decide +kernel, by decide⟩
theorem c_LP_236 : j_Lv "LinePatcher" 236 0 jm_LP_putClash 4 := ⟨by decide +kernel, by decide +kernel, ⟨_, rfl, by decide +kernel⟩, lc_LP_putClash⟩
theorem lc_LP_putPart : j_Lc jm_LP_putPart 6 := ⟨by decide +kernel, by decide +kernel, by decide, by decide +kernel, by decide⟩
theorem c_LP_240 : j_Lv "LinePatcher" 240 0 jm_LP_putPart 6 := ⟨by decide +kernel, by decide +kernel, ⟨_, rfl, by decide +kernel⟩, lc_LP_putPart⟩
theorem lc_Tx_same : j_Lc jm_Tx_same 5 := ⟨by decide +kernel, by decide +kernel, by decide, by decide +kernel, by decide⟩
theorem c_LP_243 : j_Lv "LinePatcher" 243 1 jm_Tx_same 5 := ⟨by decide +kernel, by decide +kernel, ⟨_, rfl, by decide +kernel⟩, lc_Tx_same⟩
theorem s_LP_readAll_0 {G : j_G} {d B S N : Nat} {K : Nat → Option (Nat × Nat)} {M : Nat → Int → Int} {g : Nat → Int → Option Nat} {Q : j_O → j_S → Prop} {a0 y1 : Nat} {B' S' : Nat} {Q' : j_O → j_S → Prop} (hk1 : K a0 = some (0, 0)) (hg2 : g a0 11 = some y1) (hk2 : K y1 = some (0, 9)) (hC : j_Ct G jm_AL_clear d B' S' [jr_ y1] (N, K, M, g) Q') (hR : ∀ x σ', ¬ Q' (.inr x) σ') (k1 : ∀ v σ', Q' (.inl v) σ' → j_J G jm_LP_readAll (d + 1) B S 7 [jr_ a0] (v.toList ++ []) σ' Q) : j_J G jm_LP_readAll (d + 1) (B' + B) (S' + S) 0 [jr_ a0] [] (N, K, M, g) Q :=
  j_aload_n d_LP_readAll_0 rfl <| j_getR d_LP_readAll_1 f_LP_73 hk1 hg2 <| j_callV (as := []) (rest := []) d_LP_readAll_4 c_LP_162 hk2 rfl (Nat.le_of_ble_eq_true rfl) hC hR k1
theorem s_LP_readAll_7 {G : j_G} {d B S N : Nat} {K : Nat → Option (Nat × Nat)} {M : Nat → Int → Int} {g : Nat → Int → Option Nat} {Q : j_O → j_S → Prop} {a0 y1 : Nat} (hk1 : K a0 = some (0, 0)) (hg2 : g a0 10 = some y1) (hk2 : K y1 = some (0, 7)) (k1 : j_J G jm_LP_readAll d B S 15 [jr_ a0] [] (N, K, (j_up M y1 2 0), g) Q) : j_J G jm_LP_readAll d B S 7 [jr_ a0] [] (N, K, M, g) Q :=
  j_aload_n d_LP_readAll_7 rfl <| j_getR d_LP_readAll_8 f_LP_64 hk1 hg2 <| j_iconst d_LP_readAll_11 <| j_putI d_LP_readAll_12 f_LP_165 (⟨_, rfl, Or.inl rfl⟩) rfl hk2 <| k1
theorem s_LP_readAll_15 {G : j_G} {d B S N : Nat} {K : Nat → Option (Nat × Nat)} {M : Nat → Int → Int} {g : Nat → Int → Option Nat} {Q : j_O → j_S → Prop} {a0 y1 : Nat} (hk1 : K a0 = some (0, 0)) (hg2 : g a0 10 = some y1) (hk2 : K y1 = some (0, 7)) (r3 : -2147483648 ≤ (M y1 2) ∧ (M y1 2) ≤ 2147483647 := by omega) (r4 : -2147483648 ≤ (M y1 1) ∧ (M y1 1) ≤ 2147483647 := by omega) (k1 : (M y1 1) ≤ (M y1 2) → Q (.inl none) (N, K, M, g)) (k2 : (M y1 2) < (M y1 1) → j_J G jm_LP_readAll d B S 32 [jr_ a0] [] (N, K, M, g) Q) : j_J G jm_LP_readAll d B S 15 [jr_ a0] [] (N, K, M, g) Q :=
  j_aload_n d_LP_readAll_15 rfl <| j_getR d_LP_readAll_16 f_LP_64 hk1 hg2 <| j_getI d_LP_readAll_19 f_LP_165 hk2 <| j_aload_n d_LP_readAll_22 rfl <| j_getR d_LP_readAll_23 f_LP_64 hk1 hg2 <| j_getI d_LP_readAll_26 f_LP_140 hk2 <| j_icmp_ge d_LP_readAll_29 r3 r4 (fun h => j_vreturn d_LP_readAll_50 rfl <| k1 h) k2
theorem s_LP_readAll_32 {G : j_G} {d B S N : Nat} {K : Nat → Option (Nat × Nat)} {M : Nat → Int → Int} {g : Nat → Int → Option Nat} {Q : j_O → j_S → Prop} {a0 y1 y3 : Nat} {B' S' : Nat} {Q' : j_O → j_S → Prop} (hk1 : K a0 = some (0, 0)) (hg2 : g a0 11 = some y1) (hg4 : g a0 10 = some y3) (hk2 : K y3 = some (0, 7)) (hC : j_Ct G jm_Pp_readHunk d B' S' [jr_ y3] (N, K, M, g) Q') (k2 : ∀ x σ', Q' (.inr x) σ' → Q (.inr x) σ') (k1 : ∀ v σ', Q' (.inl v) σ' → j_J G jm_LP_readAll (d + 1) B S 43 [jr_ a0] (v.toList ++ [jr_ y1]) σ' Q) : j_J G jm_LP_readAll (d + 1) (B' + B) (S' + S) 32 [jr_ a0] [] (N, K, M, g) Q :=
  j_aload_n d_LP_readAll_32 rfl <| j_getR d_LP_readAll_33 f_LP_73 hk1 hg2 <| j_aload_n d_LP_readAll_36 rfl <| j_getR d_LP_readAll_37 f_LP_64 hk1 hg4 <| j_callX (as := []) (rest := [jr_ y1]) rfl d_LP_readAll_40 c_LP_168 hk2 rfl (Nat.le_of_ble_eq_true rfl) hC k2 k1
theorem s_LP_readAll_43 {G : j_G} {d B S N : Nat} {K : Nat → Option (Nat × Nat)} {M : Nat → Int → Int} {g : Nat → Int → Option Nat} {Q : j_O → j_S → Prop} {a0 b0 b1 : Nat} {B' S' : Nat} {Q' : j_O → j_S → Prop} (hk1 : K b0 = some (0, 9)) (hC : j_Ct G jm_AL_add1 d B' S' [jr_ b0, jr_ b1] (N, K, M, g) Q') (hR : ∀ x σ', ¬ Q' (.inr x) σ') (k1 : ∀ v σ', Q' (.inl v) σ' → j_J G jm_LP_readAll (d + 1) B S 46 [jr_ a0] (v.toList ++ []) σ' Q) : j_J G jm_LP_readAll (d + 1) (B' + B) (S' + S) 43 [jr_ a0] [jr_ b1, jr_ b0] (N, K, M, g) Q :=
  j_callV (as := [jr_ b1]) (rest := []) d_LP_readAll_43 c_LP_172 hk1 rfl (Nat.le_of_ble_eq_true rfl) hC hR k1
theorem s_LP_readAll_46 {G : j_G} {d B S N : Nat} {K : Nat → Option (Nat × Nat)} {M : Nat → Int → Int} {g : Nat → Int → Option Nat} {Q : j_O → j_S → Prop} {a0 : Nat} {t0 : Int}  (k1 : j_J G jm_LP_readAll d B S 15 [jr_ a0] [] (N, K, M, g) Q) : j_J G jm_LP_readAll d B S 46 [jr_ a0] [ji_ t0] (N, K, M, g) Q :=
  j_popI d_LP_readAll_46 <| j_goto d_LP_readAll_47 k1
theorem s_LP_readAll_50 {G : j_G} {d B S N : Nat} {K : Nat → Option (Nat × Nat)} {M : Nat → Int → Int} {g : Nat → Int → Option Nat} {Q : j_O → j_S → Prop} {a0 : Nat}  (k1 : Q (.inl none) (N, K, M, g)) : j_J G jm_LP_readAll d B S 50 [jr_ a0] [] (N, K, M, g) Q :=
  j_vreturn d_LP_readAll_50 rfl k1
-- LP_read 0: caught: by hand
theorem s_LP_read_4 {G : j_G} {d B S N : Nat} {K : Nat → Option (Nat × Nat)} {M : Nat → Int → Int} {g : Nat → Int → Option Nat} {Q : j_O → j_S → Prop} {a0 : Nat} {u1 : j_V}  (k1 : Q (.inl (some (ji_ (-1)))) (N, K, M, g)) : j_J G jm_LP_read d B S 4 [jr_ a0, u1] [] (N, K, M, g) Q :=
  j_goto d_LP_read_4 (j_iconst d_LP_read_16 <| j_ireturn d_LP_read_17 rfl <| k1)
theorem s_LP_read_16 {G : j_G} {d B S N : Nat} {K : Nat → Option (Nat × Nat)} {M : Nat → Int → Int} {g : Nat → Int → Option Nat} {Q : j_O → j_S → Prop} {a0 : Nat} {u1 : j_V}  (k1 : Q (.inl (some (ji_ (-1)))) (N, K, M, g)) : j_J G jm_LP_read d B S 16 [jr_ a0, u1] [] (N, K, M, g) Q :=
  j_iconst d_LP_read_16 <| j_ireturn d_LP_read_17 rfl k1
theorem s_LP_stands_0 {G : j_G} {d B S N : Nat} {K : Nat → Option (Nat × Nat)} {M : Nat → Int → Int} {g : Nat → Int → Option Nat} {Q : j_O → j_S → Prop} {a0 a1 a2 : Nat} {x3 : Int} {u4 u5 u6 u7 : j_V} (hk1 : K a1 = some (0, 6)) (hk2 : K a2 = some (0, 1)) (r1 : -2147483648 ≤ (x3 + (M a1 1)) ∧ (x3 + (M a1 1)) ≤ 2147483647 := by omega) (r2 : -2147483648 ≤ (M a2 1) ∧ (M a2 1) ≤ 2147483647 := by omega) (k1 : (M a2 1) < (x3 + (M a1 1)) → j_J G jm_LP_stands d B S 26 [jr_ a0, jr_ a1, jr_ a2, ji_ x3, ji_ x3, ji_ 0, ji_ 0, u7] [] (N, K, M, g) Q) (k2 : (x3 + (M a1 1)) ≤ (M a2 1) → j_J G jm_LP_stands d B S 26 [jr_ a0, jr_ a1, jr_ a2, ji_ x3, ji_ x3, ji_ 1, ji_ 0, u7] [] (N, K, M, g) Q) : j_J G jm_LP_stands d B S 0 [jr_ a0, jr_ a1, jr_ a2, ji_ x3, u4, u5, u6, u7] [] (N, K, M, g) Q :=
  j_iload_n d_LP_stands_0 rfl <| j_istore d_LP_stands_1 rfl rfl <| j_iload_n d_LP_stands_3 rfl <| j_aload_n d_LP_stands_4 rfl <| j_getI d_LP_stands_5 f_LP_180 hk1 <| j_iadd d_LP_stands_8 <| j_aload_n d_LP_stands_9 rfl <| j_getI d_LP_stands_10 f_LP_85 hk2 <| j_icmp_gt d_LP_stands_13 r1 r2 (fun h => j_iconst d_LP_stands_20 <| j_istore d_LP_stands_21 rfl rfl <| j_iconst d_LP_stands_23 <| j_istore d_LP_stands_24 rfl rfl <| k1 h) (fun h => j_iconst d_LP_stands_16 <| j_goto d_LP_stands_17 <| j_istore d_LP_stands_21 rfl rfl <| j_iconst d_LP_stands_23 <| j_istore d_LP_stands_24 rfl rfl <| k2 h)
theorem s_LP_stands_16 {G : j_G} {d B S N : Nat} {K : Nat → Option (Nat × Nat)} {M : Nat → Int → Int} {g : Nat → Int → Option Nat} {Q : j_O → j_S → Prop} {a0 a1 a2 : Nat} {x3 x4 : Int} {u5 u6 u7 : j_V}  (k1 : j_J G jm_LP_stands d B S 26 [jr_ a0, jr_ a1, jr_ a2, ji_ x3, ji_ x4, ji_ 1, ji_ 0, u7] [] (N, K, M, g) Q) : j_J G jm_LP_stands d B S 16 [jr_ a0, jr_ a1, jr_ a2, ji_ x3, ji_ x4, u5, u6, u7] [] (N, K, M, g) Q :=
  j_iconst d_LP_stands_16 <| j_goto d_LP_stands_17 (j_istore d_LP_stands_21 rfl rfl <| j_iconst d_LP_stands_23 <| j_istore d_LP_stands_24 rfl rfl <| k1)
theorem s_LP_stands_20 {G : j_G} {d B S N : Nat} {K : Nat → Option (Nat × Nat)} {M : Nat → Int → Int} {g : Nat → Int → Option Nat} {Q : j_O → j_S → Prop} {a0 a1 a2 : Nat} {x3 x4 : Int} {u5 u6 u7 : j_V}  (k1 : j_J G jm_LP_stands d B S 26 [jr_ a0, jr_ a1, jr_ a2, ji_ x3, ji_ x4, ji_ 0, ji_ 0, u7] [] (N, K, M, g) Q) : j_J G jm_LP_stands d B S 20 [jr_ a0, jr_ a1, jr_ a2, ji_ x3, ji_ x4, u5, u6, u7] [] (N, K, M, g) Q :=
  j_iconst d_LP_stands_20 <| (j_istore d_LP_stands_21 rfl rfl <| j_iconst d_LP_stands_23 <| j_istore d_LP_stands_24 rfl rfl <| k1)
theorem s_LP_stands_21 {G : j_G} {d B S N : Nat} {K : Nat → Option (Nat × Nat)} {M : Nat → Int → Int} {g : Nat → Int → Option Nat} {Q : j_O → j_S → Prop} {a0 a1 a2 : Nat} {x3 x4 t0 : Int} {u5 u6 u7 : j_V}  (k1 : j_J G jm_LP_stands d B S 26 [jr_ a0, jr_ a1, jr_ a2, ji_ x3, ji_ x4, ji_ t0, ji_ 0, u7] [] (N, K, M, g) Q) : j_J G jm_LP_stands d B S 21 [jr_ a0, jr_ a1, jr_ a2, ji_ x3, ji_ x4, u5, u6, u7] [ji_ t0] (N, K, M, g) Q :=
  j_istore d_LP_stands_21 rfl rfl <| j_iconst d_LP_stands_23 <| j_istore d_LP_stands_24 rfl rfl <| k1
theorem s_LP_stands_26 {G : j_G} {d B S N : Nat} {K : Nat → Option (Nat × Nat)} {M : Nat → Int → Int} {g : Nat → Int → Option Nat} {Q : j_O → j_S → Prop} {a0 a1 a2 : Nat} {x3 x4 x5 x6 : Int} {u7 : j_V} (hk1 : K a1 = some (0, 6)) (r1 : -2147483648 ≤ x6 ∧ x6 ≤ 2147483647 := by omega) (r2 : -2147483648 ≤ (M a1 4) ∧ (M a1 4) ≤ 2147483647 := by omega) (k1 : (M a1 4) ≤ x6 → j_J G jm_LP_stands d B S 104 [jr_ a0, jr_ a1, jr_ a2, ji_ x3, ji_ x4, ji_ x5, ji_ x6, u7] [] (N, K, M, g) Q) (k2 : x6 < (M a1 4) → j_J G jm_LP_stands d B S 35 [jr_ a0, jr_ a1, jr_ a2, ji_ x3, ji_ x4, ji_ x5, ji_ x6, u7] [] (N, K, M, g) Q) : j_J G jm_LP_stands d B S 26 [jr_ a0, jr_ a1, jr_ a2, ji_ x3, ji_ x4, ji_ x5, ji_ x6, u7] [] (N, K, M, g) Q :=
  j_iload d_LP_stands_26 rfl <| j_aload_n d_LP_stands_28 rfl <| j_getI d_LP_stands_29 f_LP_185 hk1 <| j_icmp_ge d_LP_stands_32 r1 r2 k1 k2
theorem s_LP_stands_35 {G : j_G} {d B S N : Nat} {K : Nat → Option (Nat × Nat)} {M : Nat → Int → Int} {g : Nat → Int → Option Nat} {Q : j_O → j_S → Prop} {a0 a1 a2 : Nat} {x3 x4 x5 x6 : Int} {u7 : j_V} (r1 : -2147483648 ≤ x5 ∧ x5 ≤ 2147483647 := by omega) (k1 : x5 = 0 → j_J G jm_LP_stands d B S 104 [jr_ a0, jr_ a1, jr_ a2, ji_ x3, ji_ x4, ji_ x5, ji_ x6, u7] [] (N, K, M, g) Q) (k2 : x5 ≠ 0 → j_J G jm_LP_stands d B S 40 [jr_ a0, jr_ a1, jr_ a2, ji_ x3, ji_ x4, ji_ x5, ji_ x6, u7] [] (N, K, M, g) Q) : j_J G jm_LP_stands d B S 35 [jr_ a0, jr_ a1, jr_ a2, ji_ x3, ji_ x4, ji_ x5, ji_ x6, u7] [] (N, K, M, g) Q :=
  j_iload d_LP_stands_35 rfl <| j_if_eq d_LP_stands_37 r1 k1 k2
theorem s_LP_stands_40 {G : j_G} {d B S N : Nat} {K : Nat → Option (Nat × Nat)} {M : Nat → Int → Int} {g : Nat → Int → Option Nat} {Q : j_O → j_S → Prop} {a0 a1 a2 y1 y3 n4 : Nat} {x3 x4 x5 x6 : Int} {u7 : j_V} (hk1 : K a1 = some (0, 6)) (hk2 : K a0 = some (0, 0)) (hg2 : g a0 10 = some y1) (hk3 : K y1 = some (0, 7)) (hg4 : g y1 0 = some y3) (hk4 : K y3 = some (2, n4)) (r5 : 0 ≤ ((M a1 3) + (3 * x6)) := by omega) (r5' : ((M a1 3) + (3 * x6)) < (n4 : Int) := by omega) (r6 : -2147483648 ≤ (M y3 ((M a1 3) + (3 * x6))) ∧ (M y3 ((M a1 3) + (3 * x6))) ≤ 2147483647 := by omega) (k1 : (M y3 ((M a1 3) + (3 * x6))) = 43 → j_J G jm_LP_stands d B S 26 [jr_ a0, jr_ a1, jr_ a2, ji_ x3, ji_ x4, ji_ x5, ji_ (x6 + 1), ji_ ((M a1 3) + (3 * x6))] [] (N, K, M, g) Q) (k2 : (M y3 ((M a1 3) + (3 * x6))) ≠ 43 → j_J G jm_LP_stands d B S 66 [jr_ a0, jr_ a1, jr_ a2, ji_ x3, ji_ x4, ji_ x5, ji_ x6, ji_ ((M a1 3) + (3 * x6))] [] (N, K, M, g) Q) : j_J G jm_LP_stands d B S 40 [jr_ a0, jr_ a1, jr_ a2, ji_ x3, ji_ x4, ji_ x5, ji_ x6, u7] [] (N, K, M, g) Q :=
  j_aload_n d_LP_stands_40 rfl <| j_getI d_LP_stands_41 f_LP_188 hk1 <| j_iconst d_LP_stands_44 <| j_iload d_LP_stands_45 rfl <| j_imul d_LP_stands_47 <| j_iadd d_LP_stands_48 <| j_istore d_LP_stands_49 rfl rfl <| j_aload_n d_LP_stands_51 rfl <| j_getR d_LP_stands_52 f_LP_64 hk2 hg2 <| j_getR d_LP_stands_55 f_LP_161 hk3 hg4 <| j_iload d_LP_stands_58 rfl <| j_bald d_LP_stands_60 hk4 r5 r5' <| j_bipush d_LP_stands_61 (by decide) <| j_icmp_eq d_LP_stands_63 r6 (by decide) (fun h => j_iinc d_LP_stands_98 rfl rfl rfl <| j_goto d_LP_stands_101 <| k1 h) k2
theorem s_LP_stands_66 {G : j_G} {d B S N : Nat} {K : Nat → Option (Nat × Nat)} {M : Nat → Int → Int} {g : Nat → Int → Option Nat} {Q : j_O → j_S → Prop} {a0 a1 a2 y1 n2 y4 y6 n5 : Nat} {x3 x4 x5 x6 x7 : Int} (hk1 : K a2 = some (0, 1)) (hg2 : g a2 0 = some y1) (hk2 : K y1 = some (2, n2)) (r3 : 0 ≤ x4 := by omega) (r3' : x4 < (n2 : Int) := by omega) (hk3 : K a0 = some (0, 0)) (hg5 : g a0 10 = some y4) (hk4 : K y4 = some (0, 7)) (hg7 : g y4 0 = some y6) (hk5 : K y6 = some (2, n5)) (r8 : 0 ≤ (x7 + 1) := by omega) (r8' : (x7 + 1) < (n5 : Int) := by omega) (r9 : -2147483648 ≤ (M y1 x4) ∧ (M y1 x4) ≤ 2147483647 := by omega) (r10 : -2147483648 ≤ (M y6 (x7 + 1)) ∧ (M y6 (x7 + 1)) ≤ 2147483647 := by omega) (k1 : (M y1 x4) ≠ (M y6 (x7 + 1)) → j_J G jm_LP_stands d B S 26 [jr_ a0, jr_ a1, jr_ a2, ji_ x3, ji_ (x4 + 1), ji_ 0, ji_ (x6 + 1), ji_ x7] [] (N, K, M, g) Q) (k2 : (M y1 x4) = (M y6 (x7 + 1)) → j_J G jm_LP_stands d B S 26 [jr_ a0, jr_ a1, jr_ a2, ji_ x3, ji_ (x4 + 1), ji_ 1, ji_ (x6 + 1), ji_ x7] [] (N, K, M, g) Q) : j_J G jm_LP_stands d B S 66 [jr_ a0, jr_ a1, jr_ a2, ji_ x3, ji_ x4, ji_ x5, ji_ x6, ji_ x7] [] (N, K, M, g) Q :=
  j_aload_n d_LP_stands_66 rfl <| j_getR d_LP_stands_67 f_LP_92 hk1 hg2 <| j_iload d_LP_stands_70 rfl <| j_bald d_LP_stands_72 hk2 r3 r3' <| j_aload_n d_LP_stands_73 rfl <| j_getR d_LP_stands_74 f_LP_64 hk3 hg5 <| j_getR d_LP_stands_77 f_LP_161 hk4 hg7 <| j_iload d_LP_stands_80 rfl <| j_iconst d_LP_stands_82 <| j_iadd d_LP_stands_83 <| j_bald d_LP_stands_84 hk5 r8 r8' <| j_icmp_ne d_LP_stands_85 r9 r10 (fun h => j_iconst d_LP_stands_92 <| j_istore d_LP_stands_93 rfl rfl <| j_iinc d_LP_stands_95 rfl rfl rfl <| j_iinc d_LP_stands_98 rfl rfl rfl <| j_goto d_LP_stands_101 <| k1 h) (fun h => j_iconst d_LP_stands_88 <| j_goto d_LP_stands_89 <| j_istore d_LP_stands_93 rfl rfl <| j_iinc d_LP_stands_95 rfl rfl rfl <| j_iinc d_LP_stands_98 rfl rfl rfl <| j_goto d_LP_stands_101 <| k2 h)
theorem s_LP_stands_88 {G : j_G} {d B S N : Nat} {K : Nat → Option (Nat × Nat)} {M : Nat → Int → Int} {g : Nat → Int → Option Nat} {Q : j_O → j_S → Prop} {a0 a1 a2 : Nat} {x3 x4 x5 x6 x7 : Int}  (k1 : j_J G jm_LP_stands d B S 26 [jr_ a0, jr_ a1, jr_ a2, ji_ x3, ji_ (x4 + 1), ji_ 1, ji_ (x6 + 1), ji_ x7] [] (N, K, M, g) Q) : j_J G jm_LP_stands d B S 88 [jr_ a0, jr_ a1, jr_ a2, ji_ x3, ji_ x4, ji_ x5, ji_ x6, ji_ x7] [] (N, K, M, g) Q :=
  j_iconst d_LP_stands_88 <| j_goto d_LP_stands_89 (j_istore d_LP_stands_93 rfl rfl <| j_iinc d_LP_stands_95 rfl rfl rfl <| j_iinc d_LP_stands_98 rfl rfl rfl <| j_goto d_LP_stands_101 <| k1)
theorem s_LP_stands_92 {G : j_G} {d B S N : Nat} {K : Nat → Option (Nat × Nat)} {M : Nat → Int → Int} {g : Nat → Int → Option Nat} {Q : j_O → j_S → Prop} {a0 a1 a2 : Nat} {x3 x4 x5 x6 x7 : Int}  (k1 : j_J G jm_LP_stands d B S 26 [jr_ a0, jr_ a1, jr_ a2, ji_ x3, ji_ (x4 + 1), ji_ 0, ji_ (x6 + 1), ji_ x7] [] (N, K, M, g) Q) : j_J G jm_LP_stands d B S 92 [jr_ a0, jr_ a1, jr_ a2, ji_ x3, ji_ x4, ji_ x5, ji_ x6, ji_ x7] [] (N, K, M, g) Q :=
  j_iconst d_LP_stands_92 <| (j_istore d_LP_stands_93 rfl rfl <| j_iinc d_LP_stands_95 rfl rfl rfl <| j_iinc d_LP_stands_98 rfl rfl rfl <| j_goto d_LP_stands_101 <| k1)
theorem s_LP_stands_93 {G : j_G} {d B S N : Nat} {K : Nat → Option (Nat × Nat)} {M : Nat → Int → Int} {g : Nat → Int → Option Nat} {Q : j_O → j_S → Prop} {a0 a1 a2 : Nat} {x3 x4 x5 x6 x7 t0 : Int}  (k1 : j_J G jm_LP_stands d B S 26 [jr_ a0, jr_ a1, jr_ a2, ji_ x3, ji_ (x4 + 1), ji_ t0, ji_ (x6 + 1), ji_ x7] [] (N, K, M, g) Q) : j_J G jm_LP_stands d B S 93 [jr_ a0, jr_ a1, jr_ a2, ji_ x3, ji_ x4, ji_ x5, ji_ x6, ji_ x7] [ji_ t0] (N, K, M, g) Q :=
  j_istore d_LP_stands_93 rfl rfl <| j_iinc d_LP_stands_95 rfl rfl rfl <| (j_iinc d_LP_stands_98 rfl rfl rfl <| j_goto d_LP_stands_101 <| k1)
theorem s_LP_stands_98 {G : j_G} {d B S N : Nat} {K : Nat → Option (Nat × Nat)} {M : Nat → Int → Int} {g : Nat → Int → Option Nat} {Q : j_O → j_S → Prop} {a0 a1 a2 : Nat} {x3 x4 x5 x6 x7 : Int}  (k1 : j_J G jm_LP_stands d B S 26 [jr_ a0, jr_ a1, jr_ a2, ji_ x3, ji_ x4, ji_ x5, ji_ (x6 + 1), ji_ x7] [] (N, K, M, g) Q) : j_J G jm_LP_stands d B S 98 [jr_ a0, jr_ a1, jr_ a2, ji_ x3, ji_ x4, ji_ x5, ji_ x6, ji_ x7] [] (N, K, M, g) Q :=
  j_iinc d_LP_stands_98 rfl rfl rfl <| j_goto d_LP_stands_101 k1
theorem s_LP_stands_104 {G : j_G} {d B S N : Nat} {K : Nat → Option (Nat × Nat)} {M : Nat → Int → Int} {g : Nat → Int → Option Nat} {Q : j_O → j_S → Prop} {a0 a1 a2 : Nat} {x3 x4 x5 x6 : Int} {u7 : j_V} (hz1 : x5 = 0 ∨ x5 = 1) (k1 : Q (.inl (some (ji_ x5))) (N, K, M, g)) : j_J G jm_LP_stands d B S 104 [jr_ a0, jr_ a1, jr_ a2, ji_ x3, ji_ x4, ji_ x5, ji_ x6, u7] [] (N, K, M, g) Q :=
  j_iload d_LP_stands_104 rfl <| j_zreturn' d_LP_stands_106 rfl hz1 k1
theorem s_LP_find_0 {G : j_G} {d B S N : Nat} {K : Nat → Option (Nat × Nat)} {M : Nat → Int → Int} {g : Nat → Int → Option Nat} {Q : j_O → j_S → Prop} {a0 a1 a2 : Nat} {x3 : Int} {u4 u5 u6 : j_V}  (k1 : j_J G jm_LP_find d B S 6 [jr_ a0, jr_ a1, jr_ a2, ji_ x3, ji_ (-1), ji_ x3, u6] [] (N, K, M, g) Q) : j_J G jm_LP_find d B S 0 [jr_ a0, jr_ a1, jr_ a2, ji_ x3, u4, u5, u6] [] (N, K, M, g) Q :=
  j_iconst d_LP_find_0 <| j_istore d_LP_find_1 rfl rfl <| j_iload_n d_LP_find_3 rfl <| j_istore d_LP_find_4 rfl rfl <| k1
theorem s_LP_find_6 {G : j_G} {d B S N : Nat} {K : Nat → Option (Nat × Nat)} {M : Nat → Int → Int} {g : Nat → Int → Option Nat} {Q : j_O → j_S → Prop} {a0 a1 a2 : Nat} {x3 x4 x5 : Int} {u6 : j_V} (hk1 : K a2 = some (0, 1)) (r1 : -2147483648 ≤ x5 ∧ x5 ≤ 2147483647 := by omega) (r2 : -2147483648 ≤ (M a2 1) ∧ (M a2 1) ≤ 2147483647 := by omega) (k1 : (M a2 1) < x5 → Q (.inl (some (ji_ x4))) (N, K, M, g)) (k2 : x5 ≤ (M a2 1) → j_J G jm_LP_find d B S 15 [jr_ a0, jr_ a1, jr_ a2, ji_ x3, ji_ x4, ji_ x5, u6] [] (N, K, M, g) Q) : j_J G jm_LP_find d B S 6 [jr_ a0, jr_ a1, jr_ a2, ji_ x3, ji_ x4, ji_ x5, u6] [] (N, K, M, g) Q :=
  j_iload d_LP_find_6 rfl <| j_aload_n d_LP_find_8 rfl <| j_getI d_LP_find_9 f_LP_85 hk1 <| j_icmp_gt d_LP_find_12 r1 r2 (fun h => j_iload d_LP_find_81 rfl <| j_ireturn d_LP_find_83 rfl <| k1 h) k2
theorem s_LP_find_15 {G : j_G} {d B S N : Nat} {K : Nat → Option (Nat × Nat)} {M : Nat → Int → Int} {g : Nat → Int → Option Nat} {Q : j_O → j_S → Prop} {a0 a1 a2 : Nat} {x3 x4 x5 : Int} {u6 : j_V} (r1 : -2147483648 ≤ x4 ∧ x4 ≤ 2147483647 := by omega) (k1 : x4 < 0 → j_J G jm_LP_find d B S 48 [jr_ a0, jr_ a1, jr_ a2, ji_ x3, ji_ x4, ji_ x5, u6] [ji_ 1] (N, K, M, g) Q) (k2 : 0 ≤ x4 → j_J G jm_LP_find d B S 20 [jr_ a0, jr_ a1, jr_ a2, ji_ x3, ji_ x4, ji_ x5, u6] [] (N, K, M, g) Q) : j_J G jm_LP_find d B S 15 [jr_ a0, jr_ a1, jr_ a2, ji_ x3, ji_ x4, ji_ x5, u6] [] (N, K, M, g) Q :=
  j_iload d_LP_find_15 rfl <| j_if_lt d_LP_find_17 r1 (fun h => j_iconst d_LP_find_43 <| j_goto d_LP_find_44 <| k1 h) k2
theorem s_LP_find_20 {G : j_G} {d B S N : Nat} {K : Nat → Option (Nat × Nat)} {M : Nat → Int → Int} {g : Nat → Int → Option Nat} {Q : j_O → j_S → Prop} {a0 a1 a2 : Nat} {x3 x4 x5 : Int} {u6 : j_V} {q : Int → (Nat → Int → Int) → Prop} (hk1 : K a1 = some (0, 6)) (hC : j_Ct G jm_Ma_abs d 0 0 [ji_ (x5 - (M a1 0))] (N, K, M, g) (j_pI N K g q)) (k1 : ∀ z M', q z M' → j_J G jm_LP_find (d + 1) B S 30 [jr_ a0, jr_ a1, jr_ a2, ji_ x3, ji_ x4, ji_ x5, u6] [ji_ z] (N, K, M', g) Q) : j_J G jm_LP_find (d + 1) B S 20 [jr_ a0, jr_ a1, jr_ a2, ji_ x3, ji_ x4, ji_ x5, u6] [] (N, K, M, g) Q :=
  j_iload d_LP_find_20 rfl <| j_aload_n d_LP_find_22 rfl <| j_getI d_LP_find_23 f_LP_191 hk1 <| j_isub d_LP_find_26 <| j_aSI (as := [ji_ (x5 - (M a1 0))]) (rest := []) d_LP_find_27 c_LP_194 rfl (Nat.le_of_ble_eq_true rfl) hC k1
theorem s_LP_find_30 {G : j_G} {d B S N : Nat} {K : Nat → Option (Nat × Nat)} {M : Nat → Int → Int} {g : Nat → Int → Option Nat} {Q : j_O → j_S → Prop} {a0 a1 a2 : Nat} {x3 x4 x5 t0 : Int} {u6 : j_V} {q : Int → (Nat → Int → Int) → Prop} (hk1 : K a1 = some (0, 6)) (hC : j_Ct G jm_Ma_abs d 0 0 [ji_ (x4 - (M a1 0))] (N, K, M, g) (j_pI N K g q)) (k1 : ∀ z M', q z M' → j_J G jm_LP_find (d + 1) B S 40 [jr_ a0, jr_ a1, jr_ a2, ji_ x3, ji_ x4, ji_ x5, u6] [ji_ z, ji_ t0] (N, K, M', g) Q) : j_J G jm_LP_find (d + 1) B S 30 [jr_ a0, jr_ a1, jr_ a2, ji_ x3, ji_ x4, ji_ x5, u6] [ji_ t0] (N, K, M, g) Q :=
  j_iload d_LP_find_30 rfl <| j_aload_n d_LP_find_32 rfl <| j_getI d_LP_find_33 f_LP_191 hk1 <| j_isub d_LP_find_36 <| j_aSI (as := [ji_ (x4 - (M a1 0))]) (rest := [ji_ t0]) d_LP_find_37 c_LP_194 rfl (Nat.le_of_ble_eq_true rfl) hC k1
theorem s_LP_find_40 {G : j_G} {d B S N : Nat} {K : Nat → Option (Nat × Nat)} {M : Nat → Int → Int} {g : Nat → Int → Option Nat} {Q : j_O → j_S → Prop} {a0 a1 a2 : Nat} {x3 x4 x5 t0 t1 : Int} {u6 : j_V} (r1 : -2147483648 ≤ t0 ∧ t0 ≤ 2147483647 := by omega) (r2 : -2147483648 ≤ t1 ∧ t1 ≤ 2147483647 := by omega) (k1 : t1 ≤ t0 → j_J G jm_LP_find d B S 48 [jr_ a0, jr_ a1, jr_ a2, ji_ x3, ji_ x4, ji_ x5, u6] [ji_ 0] (N, K, M, g) Q) (k2 : t0 < t1 → j_J G jm_LP_find d B S 48 [jr_ a0, jr_ a1, jr_ a2, ji_ x3, ji_ x4, ji_ x5, u6] [ji_ 1] (N, K, M, g) Q) : j_J G jm_LP_find d B S 40 [jr_ a0, jr_ a1, jr_ a2, ji_ x3, ji_ x4, ji_ x5, u6] [ji_ t1, ji_ t0] (N, K, M, g) Q :=
  j_icmp_ge d_LP_find_40 r1 r2 (fun h => j_iconst d_LP_find_47 <| k1 h) (fun h => j_iconst d_LP_find_43 <| j_goto d_LP_find_44 <| k2 h)
theorem s_LP_find_43 {G : j_G} {d B S N : Nat} {K : Nat → Option (Nat × Nat)} {M : Nat → Int → Int} {g : Nat → Int → Option Nat} {Q : j_O → j_S → Prop} {a0 a1 a2 : Nat} {x3 x4 x5 : Int} {u6 : j_V}  (k1 : j_J G jm_LP_find d B S 48 [jr_ a0, jr_ a1, jr_ a2, ji_ x3, ji_ x4, ji_ x5, u6] [ji_ 1] (N, K, M, g) Q) : j_J G jm_LP_find d B S 43 [jr_ a0, jr_ a1, jr_ a2, ji_ x3, ji_ x4, ji_ x5, u6] [] (N, K, M, g) Q :=
  j_iconst d_LP_find_43 <| j_goto d_LP_find_44 k1
theorem s_LP_find_47 {G : j_G} {d B S N : Nat} {K : Nat → Option (Nat × Nat)} {M : Nat → Int → Int} {g : Nat → Int → Option Nat} {Q : j_O → j_S → Prop} {a0 a1 a2 : Nat} {x3 x4 x5 : Int} {u6 : j_V}  (k1 : j_J G jm_LP_find d B S 48 [jr_ a0, jr_ a1, jr_ a2, ji_ x3, ji_ x4, ji_ x5, u6] [ji_ 0] (N, K, M, g) Q) : j_J G jm_LP_find d B S 47 [jr_ a0, jr_ a1, jr_ a2, ji_ x3, ji_ x4, ji_ x5, u6] [] (N, K, M, g) Q :=
  j_iconst d_LP_find_47 <| k1
theorem s_LP_find_48 {G : j_G} {d B S N : Nat} {K : Nat → Option (Nat × Nat)} {M : Nat → Int → Int} {g : Nat → Int → Option Nat} {Q : j_O → j_S → Prop} {a0 a1 a2 : Nat} {x3 x4 x5 t0 : Int} {u6 : j_V} (r1 : -2147483648 ≤ t0 ∧ t0 ≤ 2147483647 := by omega) (k1 : t0 = 0 → j_J G jm_LP_find d B S 6 [jr_ a0, jr_ a1, jr_ a2, ji_ x3, ji_ x4, ji_ (x5 + 1), ji_ t0] [] (N, K, M, g) Q) (k2 : t0 ≠ 0 → j_J G jm_LP_find d B S 55 [jr_ a0, jr_ a1, jr_ a2, ji_ x3, ji_ x4, ji_ x5, ji_ t0] [] (N, K, M, g) Q) : j_J G jm_LP_find d B S 48 [jr_ a0, jr_ a1, jr_ a2, ji_ x3, ji_ x4, ji_ x5, u6] [ji_ t0] (N, K, M, g) Q :=
  j_istore d_LP_find_48 rfl rfl <| j_iload d_LP_find_50 rfl <| j_if_eq d_LP_find_52 r1 (fun h => j_iload d_LP_find_71 rfl <| j_istore d_LP_find_73 rfl rfl <| j_iinc d_LP_find_75 rfl rfl rfl <| j_goto d_LP_find_78 <| k1 h) k2
theorem s_LP_find_55 {G : j_G} {d B S N : Nat} {K : Nat → Option (Nat × Nat)} {M : Nat → Int → Int} {g : Nat → Int → Option Nat} {Q : j_O → j_S → Prop} {a0 a1 a2 : Nat} {x3 x4 x5 x6 : Int} {q : Int → (Nat → Int → Int) → Prop} (hk1 : K a0 = some (0, 0)) (hC : j_Ct G jm_LP_stands d 0 0 [jr_ a0, jr_ a1, jr_ a2, ji_ x5] (N, K, M, g) (j_pI N K g q)) (k1 : ∀ z M', q z M' → j_J G jm_LP_find (d + 1) B S 63 [jr_ a0, jr_ a1, jr_ a2, ji_ x3, ji_ x4, ji_ x5, ji_ x6] [ji_ z] (N, K, M', g) Q) : j_J G jm_LP_find (d + 1) B S 55 [jr_ a0, jr_ a1, jr_ a2, ji_ x3, ji_ x4, ji_ x5, ji_ x6] [] (N, K, M, g) Q :=
  j_aload_n d_LP_find_55 rfl <| j_aload_n d_LP_find_56 rfl <| j_aload_n d_LP_find_57 rfl <| j_iload d_LP_find_58 rfl <| j_aVI (as := [jr_ a1, jr_ a2, ji_ x5]) (rest := []) d_LP_find_60 c_LP_198 hk1 rfl (Nat.le_of_ble_eq_true rfl) hC k1
theorem s_LP_find_63 {G : j_G} {d B S N : Nat} {K : Nat → Option (Nat × Nat)} {M : Nat → Int → Int} {g : Nat → Int → Option Nat} {Q : j_O → j_S → Prop} {a0 a1 a2 : Nat} {x3 x4 x5 x6 t0 : Int} (r1 : -2147483648 ≤ t0 ∧ t0 ≤ 2147483647 := by omega) (k1 : t0 = 0 → j_J G jm_LP_find d B S 6 [jr_ a0, jr_ a1, jr_ a2, ji_ x3, ji_ x4, ji_ (x5 + 1), ji_ x6] [] (N, K, M, g) Q) (k2 : t0 ≠ 0 → j_J G jm_LP_find d B S 6 [jr_ a0, jr_ a1, jr_ a2, ji_ x3, ji_ x5, ji_ (x5 + 1), ji_ x6] [] (N, K, M, g) Q) : j_J G jm_LP_find d B S 63 [jr_ a0, jr_ a1, jr_ a2, ji_ x3, ji_ x4, ji_ x5, ji_ x6] [ji_ t0] (N, K, M, g) Q :=
  j_if_eq d_LP_find_63 r1 (fun h => j_iload d_LP_find_71 rfl <| j_istore d_LP_find_73 rfl rfl <| j_iinc d_LP_find_75 rfl rfl rfl <| j_goto d_LP_find_78 <| k1 h) (fun h => j_iload d_LP_find_66 rfl <| j_goto d_LP_find_68 <| j_istore d_LP_find_73 rfl rfl <| j_iinc d_LP_find_75 rfl rfl rfl <| j_goto d_LP_find_78 <| k2 h)
theorem s_LP_find_66 {G : j_G} {d B S N : Nat} {K : Nat → Option (Nat × Nat)} {M : Nat → Int → Int} {g : Nat → Int → Option Nat} {Q : j_O → j_S → Prop} {a0 a1 a2 : Nat} {x3 x4 x5 x6 : Int}  (k1 : j_J G jm_LP_find d B S 6 [jr_ a0, jr_ a1, jr_ a2, ji_ x3, ji_ x5, ji_ (x5 + 1), ji_ x6] [] (N, K, M, g) Q) : j_J G jm_LP_find d B S 66 [jr_ a0, jr_ a1, jr_ a2, ji_ x3, ji_ x4, ji_ x5, ji_ x6] [] (N, K, M, g) Q :=
  j_iload d_LP_find_66 rfl <| j_goto d_LP_find_68 (j_istore d_LP_find_73 rfl rfl <| j_iinc d_LP_find_75 rfl rfl rfl <| j_goto d_LP_find_78 <| k1)
theorem s_LP_find_71 {G : j_G} {d B S N : Nat} {K : Nat → Option (Nat × Nat)} {M : Nat → Int → Int} {g : Nat → Int → Option Nat} {Q : j_O → j_S → Prop} {a0 a1 a2 : Nat} {x3 x4 x5 x6 : Int}  (k1 : j_J G jm_LP_find d B S 6 [jr_ a0, jr_ a1, jr_ a2, ji_ x3, ji_ x4, ji_ (x5 + 1), ji_ x6] [] (N, K, M, g) Q) : j_J G jm_LP_find d B S 71 [jr_ a0, jr_ a1, jr_ a2, ji_ x3, ji_ x4, ji_ x5, ji_ x6] [] (N, K, M, g) Q :=
  j_iload d_LP_find_71 rfl <| (j_istore d_LP_find_73 rfl rfl <| j_iinc d_LP_find_75 rfl rfl rfl <| j_goto d_LP_find_78 <| k1)
theorem s_LP_find_73 {G : j_G} {d B S N : Nat} {K : Nat → Option (Nat × Nat)} {M : Nat → Int → Int} {g : Nat → Int → Option Nat} {Q : j_O → j_S → Prop} {a0 a1 a2 : Nat} {x3 x4 x5 x6 t0 : Int}  (k1 : j_J G jm_LP_find d B S 6 [jr_ a0, jr_ a1, jr_ a2, ji_ x3, ji_ t0, ji_ (x5 + 1), ji_ x6] [] (N, K, M, g) Q) : j_J G jm_LP_find d B S 73 [jr_ a0, jr_ a1, jr_ a2, ji_ x3, ji_ x4, ji_ x5, ji_ x6] [ji_ t0] (N, K, M, g) Q :=
  j_istore d_LP_find_73 rfl rfl <| j_iinc d_LP_find_75 rfl rfl rfl <| j_goto d_LP_find_78 k1
theorem s_LP_find_81 {G : j_G} {d B S N : Nat} {K : Nat → Option (Nat × Nat)} {M : Nat → Int → Int} {g : Nat → Int → Option Nat} {Q : j_O → j_S → Prop} {a0 a1 a2 : Nat} {x3 x4 x5 : Int} {u6 : j_V}  (k1 : Q (.inl (some (ji_ x4))) (N, K, M, g)) : j_J G jm_LP_find d B S 81 [jr_ a0, jr_ a1, jr_ a2, ji_ x3, ji_ x4, ji_ x5, u6] [] (N, K, M, g) Q :=
  j_iload d_LP_find_81 rfl <| j_ireturn d_LP_find_83 rfl k1
theorem s_LP_apply_0 {G : j_G} {d B S N : Nat} {K : Nat → Option (Nat × Nat)} {M : Nat → Int → Int} {g : Nat → Int → Option Nat} {Q : j_O → j_S → Prop} {a0 : Nat} {x1 : Int} {u2 u3 u4 u5 u6 : j_V} {q : Int → (Nat → Int → Int) → Prop} (hC : j_Ct G jm_LP_isText d 0 0 [ji_ x1] (N, K, M, g) (j_pI N K g q)) (k1 : ∀ z M', q z M' → j_J G jm_LP_apply (d + 1) B S 4 [jr_ a0, ji_ x1, u2, u3, u4, u5, u6] [ji_ z] (N, K, M', g) Q) : j_J G jm_LP_apply (d + 1) B S 0 [jr_ a0, ji_ x1, u2, u3, u4, u5, u6] [] (N, K, M, g) Q :=
  j_iload_n d_LP_apply_0 rfl <| j_aSI (as := [ji_ x1]) (rest := []) d_LP_apply_1 c_LP_78 rfl (Nat.le_of_ble_eq_true rfl) hC k1
theorem s_LP_apply_4 {G : j_G} {d B S N : Nat} {K : Nat → Option (Nat × Nat)} {M : Nat → Int → Int} {g : Nat → Int → Option Nat} {Q : j_O → j_S → Prop} {a0 : Nat} {x1 t0 : Int} {u2 u3 u4 u5 u6 : j_V} (r1 : -2147483648 ≤ t0 ∧ t0 ≤ 2147483647 := by omega) (k1 : t0 = 0 → Q (.inl (some (ji_ (-1)))) (N, K, M, g)) (k2 : t0 ≠ 0 → j_J G jm_LP_apply d B S 7 [jr_ a0, ji_ x1, u2, u3, u4, u5, u6] [] (N, K, M, g) Q) : j_J G jm_LP_apply d B S 4 [jr_ a0, ji_ x1, u2, u3, u4, u5, u6] [ji_ t0] (N, K, M, g) Q :=
  j_if_eq d_LP_apply_4 r1 (fun h => j_iconst d_LP_apply_14 <| j_ireturn d_LP_apply_15 rfl <| k1 h) k2
theorem s_LP_apply_7 {G : j_G} {d B S N : Nat} {K : Nat → Option (Nat × Nat)} {M : Nat → Int → Int} {g : Nat → Int → Option Nat} {Q : j_O → j_S → Prop} {a0 : Nat} {x1 : Int} {u2 u3 u4 u5 u6 : j_V} {B' S' : Nat} {Q' : j_O → j_S → Prop} (hk1 : K a0 = some (0, 0)) (hC : j_Ct G jm_LP_read d B' S' [jr_ a0] (N, K, M, g) Q') (hR : ∀ x σ', ¬ Q' (.inr x) σ') (k1 : ∀ v σ', Q' (.inl v) σ' → j_J G jm_LP_apply (d + 1) B S 11 [jr_ a0, ji_ x1, u2, u3, u4, u5, u6] (v.toList ++ []) σ' Q) : j_J G jm_LP_apply (d + 1) (B' + B) (S' + S) 7 [jr_ a0, ji_ x1, u2, u3, u4, u5, u6] [] (N, K, M, g) Q :=
  j_aload_n d_LP_apply_7 rfl <| j_callV (as := []) (rest := []) d_LP_apply_8 c_LP_202 hk1 rfl (Nat.le_of_ble_eq_true rfl) hC hR k1
theorem s_LP_apply_11 {G : j_G} {d B S N : Nat} {K : Nat → Option (Nat × Nat)} {M : Nat → Int → Int} {g : Nat → Int → Option Nat} {Q : j_O → j_S → Prop} {a0 : Nat} {x1 t0 : Int} {u2 u3 u4 u5 u6 : j_V} (r1 : -2147483648 ≤ t0 ∧ t0 ≤ 2147483647 := by omega) (k1 : t0 < 0 → j_J G jm_LP_apply d B S 16 [jr_ a0, ji_ x1, u2, u3, u4, u5, u6] [] (N, K, M, g) Q) (k2 : 0 ≤ t0 → Q (.inl (some (ji_ (-1)))) (N, K, M, g)) : j_J G jm_LP_apply d B S 11 [jr_ a0, ji_ x1, u2, u3, u4, u5, u6] [ji_ t0] (N, K, M, g) Q :=
  j_if_lt d_LP_apply_11 r1 k1 (fun h => j_iconst d_LP_apply_14 <| j_ireturn d_LP_apply_15 rfl <| k2 h)
theorem s_LP_apply_14 {G : j_G} {d B S N : Nat} {K : Nat → Option (Nat × Nat)} {M : Nat → Int → Int} {g : Nat → Int → Option Nat} {Q : j_O → j_S → Prop} {a0 : Nat} {x1 : Int} {u2 u3 u4 u5 u6 : j_V}  (k1 : Q (.inl (some (ji_ (-1)))) (N, K, M, g)) : j_J G jm_LP_apply d B S 14 [jr_ a0, ji_ x1, u2, u3, u4, u5, u6] [] (N, K, M, g) Q :=
  j_iconst d_LP_apply_14 <| j_ireturn d_LP_apply_15 rfl k1
theorem s_LP_apply_16 {G : j_G} {d B S N : Nat} {K : Nat → Option (Nat × Nat)} {M : Nat → Int → Int} {g : Nat → Int → Option Nat} {Q : j_O → j_S → Prop} {a0 y1 n2 tg2 y4 : Nat} {x1 : Int} {u2 u3 u4 u5 u6 : j_V} (hk1 : K a0 = some (0, 0)) (hg2 : g a0 0 = some y1) (hk2 : K y1 = some (tg2 + 3, n2)) (r3 : 0 ≤ x1 := by omega) (r3' : x1 < (n2 : Int) := by omega) (hg5 : g y1 x1 = some y4) (hk3 : K y4 = some (0, 1)) (k1 : j_J G jm_LP_apply d B S 34 [jr_ a0, ji_ x1, jr_ y4, ji_ 0, ji_ (M y4 1), ji_ 0, u6] [] (N, K, M, g) Q) : j_J G jm_LP_apply d B S 16 [jr_ a0, ji_ x1, u2, u3, u4, u5, u6] [] (N, K, M, g) Q :=
  j_aload_n d_LP_apply_16 rfl <| j_getR d_LP_apply_17 f_LP_15 hk1 hg2 <| j_iload_n d_LP_apply_20 rfl <| j_aald d_LP_apply_21 hk2 r3 r3' hg5 <| j_astore_n d_LP_apply_22 rfl rfl <| j_iconst d_LP_apply_23 <| j_istore_n d_LP_apply_24 rfl rfl <| j_aload_n d_LP_apply_25 rfl <| j_getI d_LP_apply_26 f_LP_85 hk3 <| j_istore d_LP_apply_29 rfl rfl <| j_iconst d_LP_apply_31 <| j_istore d_LP_apply_32 rfl rfl <| k1
theorem s_LP_apply_34 {G : j_G} {d B S N : Nat} {K : Nat → Option (Nat × Nat)} {M : Nat → Int → Int} {g : Nat → Int → Option Nat} {Q : j_O → j_S → Prop} {a0 a2 y1 : Nat} {x1 x3 x4 x5 : Int} {u6 : j_V} {q : Int → (Nat → Int → Int) → Prop} (hk1 : K a0 = some (0, 0)) (hg2 : g a0 11 = some y1) (hk2 : K y1 = some (0, 9)) (hC : j_Ct G jm_AL_size d 0 0 [jr_ y1] (N, K, M, g) (j_pI N K g q)) (k1 : ∀ z M', q z M' → j_J G jm_LP_apply (d + 1) B S 43 [jr_ a0, ji_ x1, jr_ a2, ji_ x3, ji_ x4, ji_ x5, u6] [ji_ z, ji_ x5] (N, K, M', g) Q) : j_J G jm_LP_apply (d + 1) B S 34 [jr_ a0, ji_ x1, jr_ a2, ji_ x3, ji_ x4, ji_ x5, u6] [] (N, K, M, g) Q :=
  j_iload d_LP_apply_34 rfl <| j_aload_n d_LP_apply_36 rfl <| j_getR d_LP_apply_37 f_LP_73 hk1 hg2 <| j_aVI (as := []) (rest := [ji_ x5]) d_LP_apply_40 c_LP_205 hk2 rfl (Nat.le_of_ble_eq_true rfl) hC k1
theorem s_LP_apply_43 {G : j_G} {d B S N : Nat} {K : Nat → Option (Nat × Nat)} {M : Nat → Int → Int} {g : Nat → Int → Option Nat} {Q : j_O → j_S → Prop} {a0 a2 : Nat} {x1 x3 x4 x5 t0 t1 : Int} {u6 : j_V} (r1 : -2147483648 ≤ t0 ∧ t0 ≤ 2147483647 := by omega) (r2 : -2147483648 ≤ t1 ∧ t1 ≤ 2147483647 := by omega) (k1 : t1 ≤ t0 → j_J G jm_LP_apply d B S 128 [jr_ a0, ji_ x1, jr_ a2, ji_ x3, ji_ x4, ji_ x5, u6] [] (N, K, M, g) Q) (k2 : t0 < t1 → j_J G jm_LP_apply d B S 46 [jr_ a0, ji_ x1, jr_ a2, ji_ x3, ji_ x4, ji_ x5, u6] [] (N, K, M, g) Q) : j_J G jm_LP_apply d B S 43 [jr_ a0, ji_ x1, jr_ a2, ji_ x3, ji_ x4, ji_ x5, u6] [ji_ t1, ji_ t0] (N, K, M, g) Q :=
  j_icmp_ge d_LP_apply_43 r1 r2 k1 k2
theorem s_LP_apply_46 {G : j_G} {d B S N : Nat} {K : Nat → Option (Nat × Nat)} {M : Nat → Int → Int} {g : Nat → Int → Option Nat} {Q : j_O → j_S → Prop} {a0 a2 y1 : Nat} {x1 x3 x4 x5 : Int} {u6 : j_V} {q : Nat → (Nat → Int → Int) → Prop} (hk1 : K a0 = some (0, 0)) (hg2 : g a0 11 = some y1) (hk2 : K y1 = some (0, 9)) (hC : j_Ct G jm_AL_get d 0 0 [jr_ y1, ji_ x5] (N, K, M, g) (j_pR N K g q)) (k1 : ∀ r M', q r M' → j_J G jm_LP_apply (d + 1) B S 55 [jr_ a0, ji_ x1, jr_ a2, ji_ x3, ji_ x4, ji_ x5, u6] [jr_ r] (N, K, M', g) Q) : j_J G jm_LP_apply (d + 1) B S 46 [jr_ a0, ji_ x1, jr_ a2, ji_ x3, ji_ x4, ji_ x5, u6] [] (N, K, M, g) Q :=
  j_aload_n d_LP_apply_46 rfl <| j_getR d_LP_apply_47 f_LP_73 hk1 hg2 <| j_iload d_LP_apply_50 rfl <| j_aVR (as := [ji_ x5]) (rest := []) d_LP_apply_52 c_LP_207 hk2 rfl (Nat.le_of_ble_eq_true rfl) hC k1
-- LP_apply 55: checkcast: by hand
theorem s_LP_apply_70 {G : j_G} {d B S N : Nat} {K : Nat → Option (Nat × Nat)} {M : Nat → Int → Int} {g : Nat → Int → Option Nat} {Q : j_O → j_S → Prop} {a0 a2 a6 b0 : Nat} {x1 x3 x4 x5 t1 : Int} (hk1 : K b0 = some (0, 6)) (hk2 : K a6 = some (0, 6)) (r1 : -2147483648 ≤ ((j_up M b0 5 t1) a6 5) ∧ ((j_up M b0 5 t1) a6 5) ≤ 2147483647 := by omega) (k1 : ((j_up M b0 5 t1) a6 5) < 0 → Q (.inl (some (ji_ ((-3) - x5)))) (N, K, (j_up M b0 5 t1), g)) (k2 : 0 ≤ ((j_up M b0 5 t1) a6 5) → j_J G jm_LP_apply d B S 97 [jr_ a0, ji_ x1, jr_ a2, ji_ x3, ji_ (x4 + (((j_up M b0 5 t1) a6 2) - ((j_up M b0 5 t1) a6 1))), ji_ x5, jr_ a6] [] (N, K, (j_up M b0 5 t1), g) Q) : j_J G jm_LP_apply d B S 70 [jr_ a0, ji_ x1, jr_ a2, ji_ x3, ji_ x4, ji_ x5, jr_ a6] [ji_ t1, jr_ b0] (N, K, M, g) Q :=
  j_putI d_LP_apply_70 f_LP_215 (⟨_, rfl, Or.inl rfl⟩) rfl hk1 <| j_iload d_LP_apply_73 rfl <| j_aload d_LP_apply_75 rfl <| j_getI d_LP_apply_77 f_LP_218 hk2 <| j_aload d_LP_apply_80 rfl <| j_getI d_LP_apply_82 f_LP_180 hk2 <| j_isub d_LP_apply_85 <| j_iadd d_LP_apply_86 <| j_istore d_LP_apply_87 rfl rfl <| j_aload d_LP_apply_89 rfl <| j_getI d_LP_apply_91 f_LP_215 hk2 <| j_if_lt d_LP_apply_94 r1 (fun h => j_bipush d_LP_apply_104 (by decide) <| j_iload d_LP_apply_106 rfl <| j_isub d_LP_apply_108 <| j_ireturn d_LP_apply_109 rfl <| k1 h) k2
theorem s_LP_apply_97 {G : j_G} {d B S N : Nat} {K : Nat → Option (Nat × Nat)} {M : Nat → Int → Int} {g : Nat → Int → Option Nat} {Q : j_O → j_S → Prop} {a0 a2 a6 : Nat} {x1 x3 x4 x5 : Int} (r1 : -2147483648 ≤ x4 ∧ x4 ≤ 2147483647 := by omega) (k1 : x4 ≤ 24 → j_J G jm_LP_apply d B S 110 [jr_ a0, ji_ x1, jr_ a2, ji_ x3, ji_ x4, ji_ x5, jr_ a6] [] (N, K, M, g) Q) (k2 : 24 < x4 → Q (.inl (some (ji_ ((-3) - x5)))) (N, K, M, g)) : j_J G jm_LP_apply d B S 97 [jr_ a0, ji_ x1, jr_ a2, ji_ x3, ji_ x4, ji_ x5, jr_ a6] [] (N, K, M, g) Q :=
  j_iload d_LP_apply_97 rfl <| j_bipush d_LP_apply_99 (by decide) <| j_icmp_le d_LP_apply_101 r1 (by decide) k1 (fun h => j_bipush d_LP_apply_104 (by decide) <| j_iload d_LP_apply_106 rfl <| j_isub d_LP_apply_108 <| j_ireturn d_LP_apply_109 rfl <| k2 h)
theorem s_LP_apply_104 {G : j_G} {d B S N : Nat} {K : Nat → Option (Nat × Nat)} {M : Nat → Int → Int} {g : Nat → Int → Option Nat} {Q : j_O → j_S → Prop} {a0 a2 a6 : Nat} {x1 x3 x4 x5 : Int}  (k1 : Q (.inl (some (ji_ ((-3) - x5)))) (N, K, M, g)) : j_J G jm_LP_apply d B S 104 [jr_ a0, ji_ x1, jr_ a2, ji_ x3, ji_ x4, ji_ x5, jr_ a6] [] (N, K, M, g) Q :=
  j_bipush d_LP_apply_104 (by decide) <| j_iload d_LP_apply_106 rfl <| j_isub d_LP_apply_108 <| j_ireturn d_LP_apply_109 rfl k1
theorem s_LP_apply_110 {G : j_G} {d B S N : Nat} {K : Nat → Option (Nat × Nat)} {M : Nat → Int → Int} {g : Nat → Int → Option Nat} {Q : j_O → j_S → Prop} {a0 a2 a6 : Nat} {x1 x3 x4 x5 : Int} (hk1 : K a6 = some (0, 6)) (k1 : j_J G jm_LP_apply d B S 34 [jr_ a0, ji_ x1, jr_ a2, ji_ ((M a6 5) + (M a6 1)), ji_ x4, ji_ (x5 + 1), jr_ a6] [] (N, K, M, g) Q) : j_J G jm_LP_apply d B S 110 [jr_ a0, ji_ x1, jr_ a2, ji_ x3, ji_ x4, ji_ x5, jr_ a6] [] (N, K, M, g) Q :=
  j_aload d_LP_apply_110 rfl <| j_getI d_LP_apply_112 f_LP_215 hk1 <| j_aload d_LP_apply_115 rfl <| j_getI d_LP_apply_117 f_LP_180 hk1 <| j_iadd d_LP_apply_120 <| j_istore_n d_LP_apply_121 rfl rfl <| j_iinc d_LP_apply_122 rfl rfl rfl <| j_goto d_LP_apply_125 k1
theorem s_LP_apply_128 {G : j_G} {d B S N : Nat} {K : Nat → Option (Nat × Nat)} {M : Nat → Int → Int} {g : Nat → Int → Option Nat} {Q : j_O → j_S → Prop} {a0 a2 : Nat} {x1 x3 x4 x5 : Int} {u6 : j_V} {q : (Nat → Int → Int) → Prop} (hk1 : K a0 = some (0, 0)) (hC : j_Ct G jm_LP_replace d 0 0 [jr_ a0, jr_ a2] (N, K, M, g) (j_pV N K g q)) (k1 : ∀ M', q M' → j_J G jm_LP_apply (d + 1) B S 133 [jr_ a0, ji_ x1, jr_ a2, ji_ x3, ji_ x4, ji_ x5, u6] [] (N, K, M', g) Q) : j_J G jm_LP_apply (d + 1) B S 128 [jr_ a0, ji_ x1, jr_ a2, ji_ x3, ji_ x4, ji_ x5, u6] [] (N, K, M, g) Q :=
  j_aload_n d_LP_apply_128 rfl <| j_aload_n d_LP_apply_129 rfl <| j_aVV (as := [jr_ a2]) (rest := []) d_LP_apply_130 c_LP_221 hk1 rfl (Nat.le_of_ble_eq_true rfl) hC k1
theorem s_LP_apply_133 {G : j_G} {d B S N : Nat} {K : Nat → Option (Nat × Nat)} {M : Nat → Int → Int} {g : Nat → Int → Option Nat} {Q : j_O → j_S → Prop} {a0 a2 y1 : Nat} {x1 x3 x4 x5 : Int} {u6 : j_V} {q : Int → (Nat → Int → Int) → Prop} (hk1 : K a0 = some (0, 0)) (hg2 : g a0 11 = some y1) (hk2 : K y1 = some (0, 9)) (hC : j_Ct G jm_AL_size d 0 0 [jr_ y1] (N, K, M, g) (j_pI N K g q)) (k1 : ∀ z M', q z M' → j_J G jm_LP_apply (d + 1) B S 140 [jr_ a0, ji_ x1, jr_ a2, ji_ x3, ji_ x4, ji_ x5, u6] [ji_ z] (N, K, M', g) Q) : j_J G jm_LP_apply (d + 1) B S 133 [jr_ a0, ji_ x1, jr_ a2, ji_ x3, ji_ x4, ji_ x5, u6] [] (N, K, M, g) Q :=
  j_aload_n d_LP_apply_133 rfl <| j_getR d_LP_apply_134 f_LP_73 hk1 hg2 <| j_aVI (as := []) (rest := []) d_LP_apply_137 c_LP_205 hk2 rfl (Nat.le_of_ble_eq_true rfl) hC k1
theorem s_LP_apply_140 {G : j_G} {d B S N : Nat} {K : Nat → Option (Nat × Nat)} {M : Nat → Int → Int} {g : Nat → Int → Option Nat} {Q : j_O → j_S → Prop} {a0 a2 : Nat} {x1 x3 x4 x5 t0 : Int} {u6 : j_V}  (k1 : Q (.inl (some (ji_ t0))) (N, K, M, g)) : j_J G jm_LP_apply d B S 140 [jr_ a0, ji_ x1, jr_ a2, ji_ x3, ji_ x4, ji_ x5, u6] [ji_ t0] (N, K, M, g) Q :=
  j_ireturn d_LP_apply_140 rfl k1
theorem s_LP_replace_0 {G : j_G} {d B S N : Nat} {K : Nat → Option (Nat × Nat)} {M : Nat → Int → Int} {g : Nat → Int → Option Nat} {Q : j_O → j_S → Prop} {a0 a1 y1 : Nat} {u2 u3 u4 u5 u6 u7 : j_V} (hk1 : K a0 = some (0, 0)) (hg2 : g a0 6 = some y1) (hk2 : K y1 = some (0, 1)) (k1 : j_J G jm_LP_replace d B S 12 [jr_ a0, jr_ a1, ji_ 0, ji_ 0, u4, u5, u6, u7] [] (N, K, (j_up M y1 1 0), g) Q) : j_J G jm_LP_replace d B S 0 [jr_ a0, jr_ a1, u2, u3, u4, u5, u6, u7] [] (N, K, M, g) Q :=
  j_aload_n d_LP_replace_0 rfl <| j_getR d_LP_replace_1 f_LP_51 hk1 hg2 <| j_iconst d_LP_replace_4 <| j_putI d_LP_replace_5 f_LP_85 (⟨_, rfl, Or.inl rfl⟩) rfl hk2 <| j_iconst d_LP_replace_8 <| j_istore_n d_LP_replace_9 rfl rfl <| j_iconst d_LP_replace_10 <| j_istore_n d_LP_replace_11 rfl rfl <| k1
theorem s_LP_replace_12 {G : j_G} {d B S N : Nat} {K : Nat → Option (Nat × Nat)} {M : Nat → Int → Int} {g : Nat → Int → Option Nat} {Q : j_O → j_S → Prop} {a0 a1 y1 : Nat} {x2 x3 : Int} {u4 u5 u6 u7 : j_V} {q : Int → (Nat → Int → Int) → Prop} (hk1 : K a0 = some (0, 0)) (hg2 : g a0 11 = some y1) (hk2 : K y1 = some (0, 9)) (hC : j_Ct G jm_AL_size d 0 0 [jr_ y1] (N, K, M, g) (j_pI N K g q)) (k1 : ∀ z M', q z M' → j_J G jm_LP_replace (d + 1) B S 20 [jr_ a0, jr_ a1, ji_ x2, ji_ x3, u4, u5, u6, u7] [ji_ z, ji_ x3] (N, K, M', g) Q) : j_J G jm_LP_replace (d + 1) B S 12 [jr_ a0, jr_ a1, ji_ x2, ji_ x3, u4, u5, u6, u7] [] (N, K, M, g) Q :=
  j_iload_n d_LP_replace_12 rfl <| j_aload_n d_LP_replace_13 rfl <| j_getR d_LP_replace_14 f_LP_73 hk1 hg2 <| j_aVI (as := []) (rest := [ji_ x3]) d_LP_replace_17 c_LP_205 hk2 rfl (Nat.le_of_ble_eq_true rfl) hC k1
theorem s_LP_replace_20 {G : j_G} {d B S N : Nat} {K : Nat → Option (Nat × Nat)} {M : Nat → Int → Int} {g : Nat → Int → Option Nat} {Q : j_O → j_S → Prop} {a0 a1 : Nat} {x2 x3 t0 t1 : Int} {u4 u5 u6 u7 : j_V} (r1 : -2147483648 ≤ t0 ∧ t0 ≤ 2147483647 := by omega) (r2 : -2147483648 ≤ t1 ∧ t1 ≤ 2147483647 := by omega) (k1 : t1 ≤ t0 → j_J G jm_LP_replace d B S 150 [jr_ a0, jr_ a1, ji_ x2, ji_ x3, u4, u5, u6, u7] [] (N, K, M, g) Q) (k2 : t0 < t1 → j_J G jm_LP_replace d B S 23 [jr_ a0, jr_ a1, ji_ x2, ji_ x3, u4, u5, u6, u7] [] (N, K, M, g) Q) : j_J G jm_LP_replace d B S 20 [jr_ a0, jr_ a1, ji_ x2, ji_ x3, u4, u5, u6, u7] [ji_ t1, ji_ t0] (N, K, M, g) Q :=
  j_icmp_ge d_LP_replace_20 r1 r2 k1 k2
theorem s_LP_replace_23 {G : j_G} {d B S N : Nat} {K : Nat → Option (Nat × Nat)} {M : Nat → Int → Int} {g : Nat → Int → Option Nat} {Q : j_O → j_S → Prop} {a0 a1 y1 : Nat} {x2 x3 : Int} {u4 u5 u6 u7 : j_V} {q : Nat → (Nat → Int → Int) → Prop} (hk1 : K a0 = some (0, 0)) (hg2 : g a0 11 = some y1) (hk2 : K y1 = some (0, 9)) (hC : j_Ct G jm_AL_get d 0 0 [jr_ y1, ji_ x3] (N, K, M, g) (j_pR N K g q)) (k1 : ∀ r M', q r M' → j_J G jm_LP_replace (d + 1) B S 31 [jr_ a0, jr_ a1, ji_ x2, ji_ x3, u4, u5, u6, u7] [jr_ r] (N, K, M', g) Q) : j_J G jm_LP_replace (d + 1) B S 23 [jr_ a0, jr_ a1, ji_ x2, ji_ x3, u4, u5, u6, u7] [] (N, K, M, g) Q :=
  j_aload_n d_LP_replace_23 rfl <| j_getR d_LP_replace_24 f_LP_73 hk1 hg2 <| j_iload_n d_LP_replace_27 rfl <| j_aVR (as := [ji_ x3]) (rest := []) d_LP_replace_28 c_LP_207 hk2 rfl (Nat.le_of_ble_eq_true rfl) hC k1
-- LP_replace 31: checkcast: by hand
theorem s_LP_replace_50 {G : j_G} {d B S N : Nat} {K : Nat → Option (Nat × Nat)} {M : Nat → Int → Int} {g : Nat → Int → Option Nat} {Q : j_O → j_S → Prop} {a0 a1 a4 : Nat} {x2 x3 t0 : Int} {u5 u6 u7 : j_V}  (k1 : j_J G jm_LP_replace d B S 55 [jr_ a0, jr_ a1, ji_ x2, ji_ x3, jr_ a4, ji_ t0, ji_ 0, u7] [] (N, K, M, g) Q) : j_J G jm_LP_replace d B S 50 [jr_ a0, jr_ a1, ji_ x2, ji_ x3, jr_ a4, u5, u6, u7] [ji_ t0] (N, K, M, g) Q :=
  j_istore d_LP_replace_50 rfl rfl <| j_iconst d_LP_replace_52 <| j_istore d_LP_replace_53 rfl rfl <| k1
theorem s_LP_replace_55 {G : j_G} {d B S N : Nat} {K : Nat → Option (Nat × Nat)} {M : Nat → Int → Int} {g : Nat → Int → Option Nat} {Q : j_O → j_S → Prop} {a0 a1 a4 : Nat} {x2 x3 x5 x6 : Int} {u7 : j_V} (hk1 : K a4 = some (0, 6)) (r1 : -2147483648 ≤ x6 ∧ x6 ≤ 2147483647 := by omega) (r2 : -2147483648 ≤ (M a4 4) ∧ (M a4 4) ≤ 2147483647 := by omega) (k1 : (M a4 4) ≤ x6 → j_J G jm_LP_replace d B S 132 [jr_ a0, jr_ a1, ji_ x2, ji_ x3, jr_ a4, ji_ x5, ji_ x6, u7] [] (N, K, M, g) Q) (k2 : x6 < (M a4 4) → j_J G jm_LP_replace d B S 65 [jr_ a0, jr_ a1, ji_ x2, ji_ x3, jr_ a4, ji_ x5, ji_ x6, u7] [] (N, K, M, g) Q) : j_J G jm_LP_replace d B S 55 [jr_ a0, jr_ a1, ji_ x2, ji_ x3, jr_ a4, ji_ x5, ji_ x6, u7] [] (N, K, M, g) Q :=
  j_iload d_LP_replace_55 rfl <| j_aload d_LP_replace_57 rfl <| j_getI d_LP_replace_59 f_LP_185 hk1 <| j_icmp_ge d_LP_replace_62 r1 r2 k1 k2
theorem s_LP_replace_65 {G : j_G} {d B S N : Nat} {K : Nat → Option (Nat × Nat)} {M : Nat → Int → Int} {g : Nat → Int → Option Nat} {Q : j_O → j_S → Prop} {a0 a1 a4 : Nat} {x2 x3 x5 x6 : Int} {u7 : j_V} (r1 : -2147483648 ≤ x5 ∧ x5 ≤ 2147483647 := by omega) (k1 : x5 = 0 → j_J G jm_LP_replace d B S 132 [jr_ a0, jr_ a1, ji_ x2, ji_ x3, jr_ a4, ji_ x5, ji_ x6, u7] [] (N, K, M, g) Q) (k2 : x5 ≠ 0 → j_J G jm_LP_replace d B S 70 [jr_ a0, jr_ a1, ji_ x2, ji_ x3, jr_ a4, ji_ x5, ji_ x6, u7] [] (N, K, M, g) Q) : j_J G jm_LP_replace d B S 65 [jr_ a0, jr_ a1, ji_ x2, ji_ x3, jr_ a4, ji_ x5, ji_ x6, u7] [] (N, K, M, g) Q :=
  j_iload d_LP_replace_65 rfl <| j_if_eq d_LP_replace_67 r1 k1 k2
theorem s_LP_replace_70 {G : j_G} {d B S N : Nat} {K : Nat → Option (Nat × Nat)} {M : Nat → Int → Int} {g : Nat → Int → Option Nat} {Q : j_O → j_S → Prop} {a0 a1 a4 y1 y3 n4 : Nat} {x2 x3 x5 x6 : Int} {u7 : j_V} (hk1 : K a4 = some (0, 6)) (hk2 : K a0 = some (0, 0)) (hg2 : g a0 10 = some y1) (hk3 : K y1 = some (0, 7)) (hg4 : g y1 0 = some y3) (hk4 : K y3 = some (2, n4)) (r5 : 0 ≤ ((M a4 3) + (3 * x6)) := by omega) (r5' : ((M a4 3) + (3 * x6)) < (n4 : Int) := by omega) (r6 : -2147483648 ≤ (M y3 ((M a4 3) + (3 * x6))) ∧ (M y3 ((M a4 3) + (3 * x6))) ≤ 2147483647 := by omega) (k1 : (M y3 ((M a4 3) + (3 * x6))) = 45 → j_J G jm_LP_replace d B S 55 [jr_ a0, jr_ a1, ji_ x2, ji_ x3, jr_ a4, ji_ 1, ji_ (x6 + 1), ji_ ((M a4 3) + (3 * x6))] [] (N, K, M, g) Q) (k2 : (M y3 ((M a4 3) + (3 * x6))) ≠ 45 → j_J G jm_LP_replace d B S 97 [jr_ a0, jr_ a1, ji_ x2, ji_ x3, jr_ a4, ji_ x5, ji_ x6, ji_ ((M a4 3) + (3 * x6))] [] (N, K, M, g) Q) : j_J G jm_LP_replace d B S 70 [jr_ a0, jr_ a1, ji_ x2, ji_ x3, jr_ a4, ji_ x5, ji_ x6, u7] [] (N, K, M, g) Q :=
  j_aload d_LP_replace_70 rfl <| j_getI d_LP_replace_72 f_LP_188 hk1 <| j_iconst d_LP_replace_75 <| j_iload d_LP_replace_76 rfl <| j_imul d_LP_replace_78 <| j_iadd d_LP_replace_79 <| j_istore d_LP_replace_80 rfl rfl <| j_aload_n d_LP_replace_82 rfl <| j_getR d_LP_replace_83 f_LP_64 hk2 hg2 <| j_getR d_LP_replace_86 f_LP_161 hk3 hg4 <| j_iload d_LP_replace_89 rfl <| j_bald d_LP_replace_91 hk4 r5 r5' <| j_bipush d_LP_replace_92 (by decide) <| j_icmp_eq d_LP_replace_94 r6 (by decide) (fun h => j_iconst d_LP_replace_119 <| j_goto d_LP_replace_120 <| j_istore d_LP_replace_124 rfl rfl <| j_iinc d_LP_replace_126 rfl rfl rfl <| j_goto d_LP_replace_129 <| k1 h) k2
theorem s_LP_replace_97 {G : j_G} {d B S N : Nat} {K : Nat → Option (Nat × Nat)} {M : Nat → Int → Int} {g : Nat → Int → Option Nat} {Q : j_O → j_S → Prop} {a0 a1 a4 y1 y3 y5 n3 : Nat} {x2 x3 x5 x6 x7 : Int} {q : Int → (Nat → Int → Int) → Prop} (hk1 : K a0 = some (0, 0)) (hg2 : g a0 6 = some y1) (hg4 : g a0 10 = some y3) (hk2 : K y3 = some (0, 7)) (hg6 : g y3 0 = some y5) (hk3 : K y5 = some (2, n3)) (r7 : 0 ≤ (x7 + 1) := by omega) (r7' : (x7 + 1) < (n3 : Int) := by omega) (hk4 : K y1 = some (0, 1)) (hC : j_Ct G jm_Tx_add d 0 0 [jr_ y1, ji_ (M y5 (x7 + 1))] (N, K, M, g) (j_pI N K g q)) (k1 : ∀ z M', q z M' → j_J G jm_LP_replace (d + 1) B S 116 [jr_ a0, jr_ a1, ji_ x2, ji_ x3, jr_ a4, ji_ x5, ji_ x6, ji_ x7] [ji_ z] (N, K, M', g) Q) : j_J G jm_LP_replace (d + 1) B S 97 [jr_ a0, jr_ a1, ji_ x2, ji_ x3, jr_ a4, ji_ x5, ji_ x6, ji_ x7] [] (N, K, M, g) Q :=
  j_aload_n d_LP_replace_97 rfl <| j_getR d_LP_replace_98 f_LP_51 hk1 hg2 <| j_aload_n d_LP_replace_101 rfl <| j_getR d_LP_replace_102 f_LP_64 hk1 hg4 <| j_getR d_LP_replace_105 f_LP_161 hk2 hg6 <| j_iload d_LP_replace_108 rfl <| j_iconst d_LP_replace_110 <| j_iadd d_LP_replace_111 <| j_bald d_LP_replace_112 hk3 r7 r7' <| j_aVI (as := [ji_ (M y5 (x7 + 1))]) (rest := []) d_LP_replace_113 c_LP_89 hk4 rfl (Nat.le_of_ble_eq_true rfl) hC k1
theorem s_LP_replace_116 {G : j_G} {d B S N : Nat} {K : Nat → Option (Nat × Nat)} {M : Nat → Int → Int} {g : Nat → Int → Option Nat} {Q : j_O → j_S → Prop} {a0 a1 a4 : Nat} {x2 x3 x5 x6 x7 t0 : Int} (r1 : -2147483648 ≤ t0 ∧ t0 ≤ 2147483647 := by omega) (k1 : t0 = 0 → j_J G jm_LP_replace d B S 55 [jr_ a0, jr_ a1, ji_ x2, ji_ x3, jr_ a4, ji_ 0, ji_ (x6 + 1), ji_ x7] [] (N, K, M, g) Q) (k2 : t0 ≠ 0 → j_J G jm_LP_replace d B S 55 [jr_ a0, jr_ a1, ji_ x2, ji_ x3, jr_ a4, ji_ 1, ji_ (x6 + 1), ji_ x7] [] (N, K, M, g) Q) : j_J G jm_LP_replace d B S 116 [jr_ a0, jr_ a1, ji_ x2, ji_ x3, jr_ a4, ji_ x5, ji_ x6, ji_ x7] [ji_ t0] (N, K, M, g) Q :=
  j_if_eq d_LP_replace_116 r1 (fun h => j_iconst d_LP_replace_123 <| j_istore d_LP_replace_124 rfl rfl <| j_iinc d_LP_replace_126 rfl rfl rfl <| j_goto d_LP_replace_129 <| k1 h) (fun h => j_iconst d_LP_replace_119 <| j_goto d_LP_replace_120 <| j_istore d_LP_replace_124 rfl rfl <| j_iinc d_LP_replace_126 rfl rfl rfl <| j_goto d_LP_replace_129 <| k2 h)
theorem s_LP_replace_119 {G : j_G} {d B S N : Nat} {K : Nat → Option (Nat × Nat)} {M : Nat → Int → Int} {g : Nat → Int → Option Nat} {Q : j_O → j_S → Prop} {a0 a1 a4 : Nat} {x2 x3 x5 x6 x7 : Int}  (k1 : j_J G jm_LP_replace d B S 55 [jr_ a0, jr_ a1, ji_ x2, ji_ x3, jr_ a4, ji_ 1, ji_ (x6 + 1), ji_ x7] [] (N, K, M, g) Q) : j_J G jm_LP_replace d B S 119 [jr_ a0, jr_ a1, ji_ x2, ji_ x3, jr_ a4, ji_ x5, ji_ x6, ji_ x7] [] (N, K, M, g) Q :=
  j_iconst d_LP_replace_119 <| j_goto d_LP_replace_120 (j_istore d_LP_replace_124 rfl rfl <| j_iinc d_LP_replace_126 rfl rfl rfl <| j_goto d_LP_replace_129 <| k1)
theorem s_LP_replace_123 {G : j_G} {d B S N : Nat} {K : Nat → Option (Nat × Nat)} {M : Nat → Int → Int} {g : Nat → Int → Option Nat} {Q : j_O → j_S → Prop} {a0 a1 a4 : Nat} {x2 x3 x5 x6 x7 : Int}  (k1 : j_J G jm_LP_replace d B S 55 [jr_ a0, jr_ a1, ji_ x2, ji_ x3, jr_ a4, ji_ 0, ji_ (x6 + 1), ji_ x7] [] (N, K, M, g) Q) : j_J G jm_LP_replace d B S 123 [jr_ a0, jr_ a1, ji_ x2, ji_ x3, jr_ a4, ji_ x5, ji_ x6, ji_ x7] [] (N, K, M, g) Q :=
  j_iconst d_LP_replace_123 <| (j_istore d_LP_replace_124 rfl rfl <| j_iinc d_LP_replace_126 rfl rfl rfl <| j_goto d_LP_replace_129 <| k1)
theorem s_LP_replace_124 {G : j_G} {d B S N : Nat} {K : Nat → Option (Nat × Nat)} {M : Nat → Int → Int} {g : Nat → Int → Option Nat} {Q : j_O → j_S → Prop} {a0 a1 a4 : Nat} {x2 x3 x5 x6 x7 t0 : Int}  (k1 : j_J G jm_LP_replace d B S 55 [jr_ a0, jr_ a1, ji_ x2, ji_ x3, jr_ a4, ji_ t0, ji_ (x6 + 1), ji_ x7] [] (N, K, M, g) Q) : j_J G jm_LP_replace d B S 124 [jr_ a0, jr_ a1, ji_ x2, ji_ x3, jr_ a4, ji_ x5, ji_ x6, ji_ x7] [ji_ t0] (N, K, M, g) Q :=
  j_istore d_LP_replace_124 rfl rfl <| j_iinc d_LP_replace_126 rfl rfl rfl <| j_goto d_LP_replace_129 k1
theorem s_LP_replace_132 {G : j_G} {d B S N : Nat} {K : Nat → Option (Nat × Nat)} {M : Nat → Int → Int} {g : Nat → Int → Option Nat} {Q : j_O → j_S → Prop} {a0 a1 a4 : Nat} {x2 x3 x5 x6 : Int} {u7 : j_V} (hk1 : K a4 = some (0, 6)) (k1 : j_J G jm_LP_replace d B S 12 [jr_ a0, jr_ a1, ji_ ((M a4 5) + (M a4 1)), ji_ (x3 + 1), jr_ a4, ji_ x5, ji_ x6, u7] [] (N, K, M, g) Q) : j_J G jm_LP_replace d B S 132 [jr_ a0, jr_ a1, ji_ x2, ji_ x3, jr_ a4, ji_ x5, ji_ x6, u7] [] (N, K, M, g) Q :=
  j_aload d_LP_replace_132 rfl <| j_getI d_LP_replace_134 f_LP_215 hk1 <| j_aload d_LP_replace_137 rfl <| j_getI d_LP_replace_139 f_LP_180 hk1 <| j_iadd d_LP_replace_142 <| j_istore_n d_LP_replace_143 rfl rfl <| j_iinc d_LP_replace_144 rfl rfl rfl <| j_goto d_LP_replace_147 k1
theorem s_LP_replace_150 {G : j_G} {d B S N : Nat} {K : Nat → Option (Nat × Nat)} {M : Nat → Int → Int} {g : Nat → Int → Option Nat} {Q : j_O → j_S → Prop} {a0 a1 y1 : Nat} {x2 x3 : Int} {u4 u5 u6 u7 : j_V} {q : Int → (Nat → Int → Int) → Prop} (hk1 : K a0 = some (0, 0)) (hg2 : g a0 6 = some y1) (hk2 : K a1 = some (0, 1)) (hk3 : K y1 = some (0, 1)) (hC : j_Ct G jm_Tx_addAll d 0 0 [jr_ y1, jr_ a1, ji_ x2, ji_ (M a1 1)] (N, K, M, g) (j_pI N K g q)) (k1 : ∀ z M', q z M' → j_J G jm_LP_replace (d + 1) B S 163 [jr_ a0, jr_ a1, ji_ x2, ji_ x3, u4, u5, u6, u7] [ji_ z] (N, K, M', g) Q) : j_J G jm_LP_replace (d + 1) B S 150 [jr_ a0, jr_ a1, ji_ x2, ji_ x3, u4, u5, u6, u7] [] (N, K, M, g) Q :=
  j_aload_n d_LP_replace_150 rfl <| j_getR d_LP_replace_151 f_LP_51 hk1 hg2 <| j_aload_n d_LP_replace_154 rfl <| j_iload_n d_LP_replace_155 rfl <| j_aload_n d_LP_replace_156 rfl <| j_getI d_LP_replace_157 f_LP_85 hk2 <| j_aVI (as := [jr_ a1, ji_ x2, ji_ (M a1 1)]) (rest := []) d_LP_replace_160 c_LP_225 hk3 rfl (Nat.le_of_ble_eq_true rfl) hC k1
theorem s_LP_replace_163 {G : j_G} {d B S N : Nat} {K : Nat → Option (Nat × Nat)} {M : Nat → Int → Int} {g : Nat → Int → Option Nat} {Q : j_O → j_S → Prop} {a0 a1 : Nat} {x2 x3 t0 : Int} {u4 u5 u6 u7 : j_V} (r1 : -2147483648 ≤ t0 ∧ t0 ≤ 2147483647 := by omega) (k1 : t0 = 0 → Q (.inl none) (N, K, M, g)) (k2 : t0 ≠ 0 → j_J G jm_LP_replace d B S 166 [jr_ a0, jr_ a1, ji_ x2, ji_ x3, u4, u5, u6, u7] [] (N, K, M, g) Q) : j_J G jm_LP_replace d B S 163 [jr_ a0, jr_ a1, ji_ x2, ji_ x3, u4, u5, u6, u7] [ji_ t0] (N, K, M, g) Q :=
  j_if_eq d_LP_replace_163 r1 (fun h => j_vreturn d_LP_replace_174 rfl <| k1 h) k2
theorem s_LP_replace_166 {G : j_G} {d B S N : Nat} {K : Nat → Option (Nat × Nat)} {M : Nat → Int → Int} {g : Nat → Int → Option Nat} {Q : j_O → j_S → Prop} {a0 a1 y1 : Nat} {x2 x3 : Int} {u4 u5 u6 u7 : j_V} {q : (Nat → Int → Int) → Prop} (hk1 : K a0 = some (0, 0)) (hg2 : g a0 6 = some y1) (hk2 : K a1 = some (0, 1)) (hC : j_Ct G jm_Tx_copy d 0 0 [jr_ a1, jr_ y1] (N, K, M, g) (j_pV N K g q)) (k1 : ∀ M', q M' → j_J G jm_LP_replace (d + 1) B S 174 [jr_ a0, jr_ a1, ji_ x2, ji_ x3, u4, u5, u6, u7] [] (N, K, M', g) Q) : j_J G jm_LP_replace (d + 1) B S 166 [jr_ a0, jr_ a1, ji_ x2, ji_ x3, u4, u5, u6, u7] [] (N, K, M, g) Q :=
  j_aload_n d_LP_replace_166 rfl <| j_aload_n d_LP_replace_167 rfl <| j_getR d_LP_replace_168 f_LP_51 hk1 hg2 <| j_aVV (as := [jr_ y1]) (rest := []) d_LP_replace_171 c_LP_229 hk2 rfl (Nat.le_of_ble_eq_true rfl) hC k1
theorem s_LP_replace_174 {G : j_G} {d B S N : Nat} {K : Nat → Option (Nat × Nat)} {M : Nat → Int → Int} {g : Nat → Int → Option Nat} {Q : j_O → j_S → Prop} {a0 a1 : Nat} {x2 x3 : Int} {u4 u5 u6 u7 : j_V}  (k1 : Q (.inl none) (N, K, M, g)) : j_J G jm_LP_replace d B S 174 [jr_ a0, jr_ a1, ji_ x2, ji_ x3, u4, u5, u6, u7] [] (N, K, M, g) Q :=
  j_vreturn d_LP_replace_174 rfl k1
theorem s_LP_merge_0 {G : j_G} {d B S N : Nat} {K : Nat → Option (Nat × Nat)} {M : Nat → Int → Int} {g : Nat → Int → Option Nat} {Q : j_O → j_S → Prop} {a0 y1 n2 tg2 y4 : Nat} {u1 u2 u3 u4 u5 u6 u7 u8 u9 u10 : j_V} {q : Int → (Nat → Int → Int) → Prop} (hk1 : K a0 = some (0, 0)) (hg2 : g a0 0 = some y1) (hk2 : K y1 = some (tg2 + 3, n2)) (r3 : 0 ≤ (0 : Int) := by omega) (r3' : (0 : Int) < (n2 : Int) := by omega) (hg5 : g y1 0 = some y4) (hk3 : K y4 = some (0, 1)) (hC : j_Ct G jm_Tx_isPlain d 0 0 [jr_ y4] (N, K, M, g) (j_pI N K g q)) (k1 : ∀ z M', q z M' → j_J G jm_LP_merge (d + 1) B S 9 [jr_ a0, u1, u2, u3, u4, u5, u6, u7, u8, u9, u10] [ji_ z] (N, K, M', g) Q) : j_J G jm_LP_merge (d + 1) B S 0 [jr_ a0, u1, u2, u3, u4, u5, u6, u7, u8, u9, u10] [] (N, K, M, g) Q :=
  j_aload_n d_LP_merge_0 rfl <| j_getR d_LP_merge_1 f_LP_15 hk1 hg2 <| j_iconst d_LP_merge_4 <| j_aald d_LP_merge_5 hk2 r3 r3' hg5 <| j_aVI (as := []) (rest := []) d_LP_merge_6 c_LP_96 hk3 rfl (Nat.le_of_ble_eq_true rfl) hC k1
theorem s_LP_merge_9 {G : j_G} {d B S N : Nat} {K : Nat → Option (Nat × Nat)} {M : Nat → Int → Int} {g : Nat → Int → Option Nat} {Q : j_O → j_S → Prop} {a0 : Nat} {t0 : Int} {u1 u2 u3 u4 u5 u6 u7 u8 u9 u10 : j_V} (r1 : -2147483648 ≤ t0 ∧ t0 ≤ 2147483647 := by omega) (k1 : t0 = 0 → Q (.inl (some (ji_ (-3)))) (N, K, M, g)) (k2 : t0 ≠ 0 → j_J G jm_LP_merge d B S 12 [jr_ a0, u1, u2, u3, u4, u5, u6, u7, u8, u9, u10] [] (N, K, M, g) Q) : j_J G jm_LP_merge d B S 9 [jr_ a0, u1, u2, u3, u4, u5, u6, u7, u8, u9, u10] [ji_ t0] (N, K, M, g) Q :=
  j_if_eq d_LP_merge_9 r1 (fun h => j_bipush d_LP_merge_36 (by decide) <| j_ireturn d_LP_merge_38 rfl <| k1 h) k2
theorem s_LP_merge_12 {G : j_G} {d B S N : Nat} {K : Nat → Option (Nat × Nat)} {M : Nat → Int → Int} {g : Nat → Int → Option Nat} {Q : j_O → j_S → Prop} {a0 y1 n2 tg2 y4 : Nat} {u1 u2 u3 u4 u5 u6 u7 u8 u9 u10 : j_V} {q : Int → (Nat → Int → Int) → Prop} (hk1 : K a0 = some (0, 0)) (hg2 : g a0 0 = some y1) (hk2 : K y1 = some (tg2 + 3, n2)) (r3 : 0 ≤ (1 : Int) := by omega) (r3' : (1 : Int) < (n2 : Int) := by omega) (hg5 : g y1 1 = some y4) (hk3 : K y4 = some (0, 1)) (hC : j_Ct G jm_Tx_isPlain d 0 0 [jr_ y4] (N, K, M, g) (j_pI N K g q)) (k1 : ∀ z M', q z M' → j_J G jm_LP_merge (d + 1) B S 21 [jr_ a0, u1, u2, u3, u4, u5, u6, u7, u8, u9, u10] [ji_ z] (N, K, M', g) Q) : j_J G jm_LP_merge (d + 1) B S 12 [jr_ a0, u1, u2, u3, u4, u5, u6, u7, u8, u9, u10] [] (N, K, M, g) Q :=
  j_aload_n d_LP_merge_12 rfl <| j_getR d_LP_merge_13 f_LP_15 hk1 hg2 <| j_iconst d_LP_merge_16 <| j_aald d_LP_merge_17 hk2 r3 r3' hg5 <| j_aVI (as := []) (rest := []) d_LP_merge_18 c_LP_96 hk3 rfl (Nat.le_of_ble_eq_true rfl) hC k1
theorem s_LP_merge_21 {G : j_G} {d B S N : Nat} {K : Nat → Option (Nat × Nat)} {M : Nat → Int → Int} {g : Nat → Int → Option Nat} {Q : j_O → j_S → Prop} {a0 : Nat} {t0 : Int} {u1 u2 u3 u4 u5 u6 u7 u8 u9 u10 : j_V} (r1 : -2147483648 ≤ t0 ∧ t0 ≤ 2147483647 := by omega) (k1 : t0 = 0 → Q (.inl (some (ji_ (-3)))) (N, K, M, g)) (k2 : t0 ≠ 0 → j_J G jm_LP_merge d B S 24 [jr_ a0, u1, u2, u3, u4, u5, u6, u7, u8, u9, u10] [] (N, K, M, g) Q) : j_J G jm_LP_merge d B S 21 [jr_ a0, u1, u2, u3, u4, u5, u6, u7, u8, u9, u10] [ji_ t0] (N, K, M, g) Q :=
  j_if_eq d_LP_merge_21 r1 (fun h => j_bipush d_LP_merge_36 (by decide) <| j_ireturn d_LP_merge_38 rfl <| k1 h) k2
theorem s_LP_merge_24 {G : j_G} {d B S N : Nat} {K : Nat → Option (Nat × Nat)} {M : Nat → Int → Int} {g : Nat → Int → Option Nat} {Q : j_O → j_S → Prop} {a0 y1 n2 tg2 y4 : Nat} {u1 u2 u3 u4 u5 u6 u7 u8 u9 u10 : j_V} {q : Int → (Nat → Int → Int) → Prop} (hk1 : K a0 = some (0, 0)) (hg2 : g a0 0 = some y1) (hk2 : K y1 = some (tg2 + 3, n2)) (r3 : 0 ≤ (2 : Int) := by omega) (r3' : (2 : Int) < (n2 : Int) := by omega) (hg5 : g y1 2 = some y4) (hk3 : K y4 = some (0, 1)) (hC : j_Ct G jm_Tx_isPlain d 0 0 [jr_ y4] (N, K, M, g) (j_pI N K g q)) (k1 : ∀ z M', q z M' → j_J G jm_LP_merge (d + 1) B S 33 [jr_ a0, u1, u2, u3, u4, u5, u6, u7, u8, u9, u10] [ji_ z] (N, K, M', g) Q) : j_J G jm_LP_merge (d + 1) B S 24 [jr_ a0, u1, u2, u3, u4, u5, u6, u7, u8, u9, u10] [] (N, K, M, g) Q :=
  j_aload_n d_LP_merge_24 rfl <| j_getR d_LP_merge_25 f_LP_15 hk1 hg2 <| j_iconst d_LP_merge_28 <| j_aald d_LP_merge_29 hk2 r3 r3' hg5 <| j_aVI (as := []) (rest := []) d_LP_merge_30 c_LP_96 hk3 rfl (Nat.le_of_ble_eq_true rfl) hC k1
theorem s_LP_merge_33 {G : j_G} {d B S N : Nat} {K : Nat → Option (Nat × Nat)} {M : Nat → Int → Int} {g : Nat → Int → Option Nat} {Q : j_O → j_S → Prop} {a0 : Nat} {t0 : Int} {u1 u2 u3 u4 u5 u6 u7 u8 u9 u10 : j_V} (r1 : -2147483648 ≤ t0 ∧ t0 ≤ 2147483647 := by omega) (k1 : t0 ≠ 0 → j_J G jm_LP_merge d B S 39 [jr_ a0, u1, u2, u3, u4, u5, u6, u7, u8, u9, u10] [] (N, K, M, g) Q) (k2 : t0 = 0 → Q (.inl (some (ji_ (-3)))) (N, K, M, g)) : j_J G jm_LP_merge d B S 33 [jr_ a0, u1, u2, u3, u4, u5, u6, u7, u8, u9, u10] [ji_ t0] (N, K, M, g) Q :=
  j_if_ne d_LP_merge_33 r1 k1 (fun h => j_bipush d_LP_merge_36 (by decide) <| j_ireturn d_LP_merge_38 rfl <| k2 h)
theorem s_LP_merge_36 {G : j_G} {d B S N : Nat} {K : Nat → Option (Nat × Nat)} {M : Nat → Int → Int} {g : Nat → Int → Option Nat} {Q : j_O → j_S → Prop} {a0 : Nat} {u1 u2 u3 u4 u5 u6 u7 u8 u9 u10 : j_V}  (k1 : Q (.inl (some (ji_ (-3)))) (N, K, M, g)) : j_J G jm_LP_merge d B S 36 [jr_ a0, u1, u2, u3, u4, u5, u6, u7, u8, u9, u10] [] (N, K, M, g) Q :=
  j_bipush d_LP_merge_36 (by decide) <| j_ireturn d_LP_merge_38 rfl k1
theorem s_LP_merge_39 {G : j_G} {d B S N : Nat} {K : Nat → Option (Nat × Nat)} {M : Nat → Int → Int} {g : Nat → Int → Option Nat} {Q : j_O → j_S → Prop} {a0 y1 y3 n2 tg2 y6 n3 tg3 y9 : Nat} {u1 u2 u3 u4 u5 u6 u7 u8 u9 u10 : j_V} {q : (Nat → Int → Int) → Prop} (hk1 : K a0 = some (0, 0)) (hg2 : g a0 4 = some y1) (hg4 : g a0 0 = some y3) (hk2 : K y3 = some (tg2 + 3, n2)) (r5 : 0 ≤ (0 : Int) := by omega) (r5' : (0 : Int) < (n2 : Int) := by omega) (hg7 : g y3 0 = some y6) (hk3 : K y3 = some (tg3 + 3, n3)) (r8 : 0 ≤ (1 : Int) := by omega) (r8' : (1 : Int) < (n3 : Int) := by omega) (hg10 : g y3 1 = some y9) (hk4 : K y1 = some (0, 2)) (hC : j_Ct G jm_Pr_begin d 0 0 [jr_ y1, jr_ y6, jr_ y9] (N, K, M, g) (j_pV N K g q)) (k1 : ∀ M', q M' → j_J G jm_LP_merge (d + 1) B S 58 [jr_ a0, u1, u2, u3, u4, u5, u6, u7, u8, u9, u10] [] (N, K, M', g) Q) : j_J G jm_LP_merge (d + 1) B S 39 [jr_ a0, u1, u2, u3, u4, u5, u6, u7, u8, u9, u10] [] (N, K, M, g) Q :=
  j_aload_n d_LP_merge_39 rfl <| j_getR d_LP_merge_40 f_LP_44 hk1 hg2 <| j_aload_n d_LP_merge_43 rfl <| j_getR d_LP_merge_44 f_LP_15 hk1 hg4 <| j_iconst d_LP_merge_47 <| j_aald d_LP_merge_48 hk2 r5 r5' hg7 <| j_aload_n d_LP_merge_49 rfl <| j_getR d_LP_merge_50 f_LP_15 hk1 hg4 <| j_iconst d_LP_merge_53 <| j_aald d_LP_merge_54 hk3 r8 r8' hg10 <| j_aVV (as := [jr_ y6, jr_ y9]) (rest := []) d_LP_merge_55 c_LP_100 hk4 rfl (Nat.le_of_ble_eq_true rfl) hC k1
theorem s_LP_merge_58 {G : j_G} {d B S N : Nat} {K : Nat → Option (Nat × Nat)} {M : Nat → Int → Int} {g : Nat → Int → Option Nat} {Q : j_O → j_S → Prop} {a0 y1 y3 n2 tg2 y6 n3 tg3 y9 : Nat} {u1 u2 u3 u4 u5 u6 u7 u8 u9 u10 : j_V} {q : (Nat → Int → Int) → Prop} (hk1 : K a0 = some (0, 0)) (hg2 : g a0 5 = some y1) (hg4 : g a0 0 = some y3) (hk2 : K y3 = some (tg2 + 3, n2)) (r5 : 0 ≤ (0 : Int) := by omega) (r5' : (0 : Int) < (n2 : Int) := by omega) (hg7 : g y3 0 = some y6) (hk3 : K y3 = some (tg3 + 3, n3)) (r8 : 0 ≤ (2 : Int) := by omega) (r8' : (2 : Int) < (n3 : Int) := by omega) (hg10 : g y3 2 = some y9) (hk4 : K y1 = some (0, 2)) (hC : j_Ct G jm_Pr_begin d 0 0 [jr_ y1, jr_ y6, jr_ y9] (N, K, M, g) (j_pV N K g q)) (k1 : ∀ M', q M' → j_J G jm_LP_merge (d + 1) B S 77 [jr_ a0, u1, u2, u3, u4, u5, u6, u7, u8, u9, u10] [] (N, K, M', g) Q) : j_J G jm_LP_merge (d + 1) B S 58 [jr_ a0, u1, u2, u3, u4, u5, u6, u7, u8, u9, u10] [] (N, K, M, g) Q :=
  j_aload_n d_LP_merge_58 rfl <| j_getR d_LP_merge_59 f_LP_47 hk1 hg2 <| j_aload_n d_LP_merge_62 rfl <| j_getR d_LP_merge_63 f_LP_15 hk1 hg4 <| j_iconst d_LP_merge_66 <| j_aald d_LP_merge_67 hk2 r5 r5' hg7 <| j_aload_n d_LP_merge_68 rfl <| j_getR d_LP_merge_69 f_LP_15 hk1 hg4 <| j_iconst d_LP_merge_72 <| j_aald d_LP_merge_73 hk3 r8 r8' hg10 <| j_aVV (as := [jr_ y6, jr_ y9]) (rest := []) d_LP_merge_74 c_LP_100 hk4 rfl (Nat.le_of_ble_eq_true rfl) hC k1
theorem s_LP_merge_77 {G : j_G} {d B S N : Nat} {K : Nat → Option (Nat × Nat)} {M : Nat → Int → Int} {g : Nat → Int → Option Nat} {Q : j_O → j_S → Prop} {a0 y1 y3 y5 y7 ci9 : Nat} {u1 u2 u3 u4 u5 u6 u7 u8 u9 u10 : j_V} {q : (Nat → Int → Int) → Prop} {y' : j_Mt} (hk1 : K a0 = some (0, 0)) (hg2 : g a0 1 = some y1) (hg4 : g a0 4 = some y3) (hk2 : K y3 = some (0, 2)) (hg6 : g y3 0 = some y5) (hk3 : K y5 = some (0, 1)) (hg8 : g y3 1 = some y7) (hk4 : K y7 = some (0, 1)) (hk10 : K y1 = some (0, ci9)) (hf11 : j_Lf "LinePatcher" 110 ci9 ⟨"LinePatcher$Way", "run", "(LLinePatcher$Pairing;IIII)V"⟩ y' 5) (hC : j_Ct G y' d 0 0 [jr_ y1, jr_ y3, ji_ 0, ji_ (M y5 1), ji_ 0, ji_ (M y7 1)] (N, K, M, g) (j_pV N K g q)) (k1 : ∀ M', q M' → j_J G jm_LP_merge (d + 1) B S 112 [jr_ a0, u1, u2, u3, u4, u5, u6, u7, u8, u9, u10] [] (N, K, M', g) Q) : j_J G jm_LP_merge (d + 1) B S 77 [jr_ a0, u1, u2, u3, u4, u5, u6, u7, u8, u9, u10] [] (N, K, M, g) Q :=
  j_aload_n d_LP_merge_77 rfl <| j_getR d_LP_merge_78 f_LP_22 hk1 hg2 <| j_aload_n d_LP_merge_81 rfl <| j_getR d_LP_merge_82 f_LP_44 hk1 hg4 <| j_iconst d_LP_merge_85 <| j_aload_n d_LP_merge_86 rfl <| j_getR d_LP_merge_87 f_LP_44 hk1 hg4 <| j_getR d_LP_merge_90 f_LP_104 hk2 hg6 <| j_getI d_LP_merge_93 f_LP_85 hk3 <| j_iconst d_LP_merge_96 <| j_aload_n d_LP_merge_97 rfl <| j_getR d_LP_merge_98 f_LP_44 hk1 hg4 <| j_getR d_LP_merge_101 f_LP_107 hk2 hg8 <| j_getI d_LP_merge_104 f_LP_85 hk4 <| j_aF (as := [jr_ y3, ji_ 0, ji_ (M y5 1), ji_ 0, ji_ (M y7 1)]) (rest := []) d_LP_merge_107 hf11 hk10 rfl (Nat.le_of_ble_eq_true rfl) hC k1
theorem s_LP_merge_112 {G : j_G} {d B S N : Nat} {K : Nat → Option (Nat × Nat)} {M : Nat → Int → Int} {g : Nat → Int → Option Nat} {Q : j_O → j_S → Prop} {a0 y1 y3 y5 y7 ci9 : Nat} {u1 u2 u3 u4 u5 u6 u7 u8 u9 u10 : j_V} {q : (Nat → Int → Int) → Prop} {y' : j_Mt} (hk1 : K a0 = some (0, 0)) (hg2 : g a0 1 = some y1) (hg4 : g a0 5 = some y3) (hk2 : K y3 = some (0, 2)) (hg6 : g y3 0 = some y5) (hk3 : K y5 = some (0, 1)) (hg8 : g y3 1 = some y7) (hk4 : K y7 = some (0, 1)) (hk10 : K y1 = some (0, ci9)) (hf11 : j_Lf "LinePatcher" 110 ci9 ⟨"LinePatcher$Way", "run", "(LLinePatcher$Pairing;IIII)V"⟩ y' 5) (hC : j_Ct G y' d 0 0 [jr_ y1, jr_ y3, ji_ 0, ji_ (M y5 1), ji_ 0, ji_ (M y7 1)] (N, K, M, g) (j_pV N K g q)) (k1 : ∀ M', q M' → j_J G jm_LP_merge (d + 1) B S 147 [jr_ a0, u1, u2, u3, u4, u5, u6, u7, u8, u9, u10] [] (N, K, M', g) Q) : j_J G jm_LP_merge (d + 1) B S 112 [jr_ a0, u1, u2, u3, u4, u5, u6, u7, u8, u9, u10] [] (N, K, M, g) Q :=
  j_aload_n d_LP_merge_112 rfl <| j_getR d_LP_merge_113 f_LP_22 hk1 hg2 <| j_aload_n d_LP_merge_116 rfl <| j_getR d_LP_merge_117 f_LP_47 hk1 hg4 <| j_iconst d_LP_merge_120 <| j_aload_n d_LP_merge_121 rfl <| j_getR d_LP_merge_122 f_LP_47 hk1 hg4 <| j_getR d_LP_merge_125 f_LP_104 hk2 hg6 <| j_getI d_LP_merge_128 f_LP_85 hk3 <| j_iconst d_LP_merge_131 <| j_aload_n d_LP_merge_132 rfl <| j_getR d_LP_merge_133 f_LP_47 hk1 hg4 <| j_getR d_LP_merge_136 f_LP_107 hk2 hg8 <| j_getI d_LP_merge_139 f_LP_85 hk4 <| j_aF (as := [jr_ y3, ji_ 0, ji_ (M y5 1), ji_ 0, ji_ (M y7 1)]) (rest := []) d_LP_merge_142 hf11 hk10 rfl (Nat.le_of_ble_eq_true rfl) hC k1
theorem s_LP_merge_147 {G : j_G} {d B S N : Nat} {K : Nat → Option (Nat × Nat)} {M : Nat → Int → Int} {g : Nat → Int → Option Nat} {Q : j_O → j_S → Prop} {a0 y1 : Nat} {u1 u2 u3 u4 u5 u6 u7 u8 u9 u10 : j_V} (hk1 : K a0 = some (0, 0)) (hg2 : g a0 6 = some y1) (hk2 : K y1 = some (0, 1)) (k1 : j_J G jm_LP_merge d B S 170 [jr_ a0, ji_ 0, ji_ 1, ji_ 0, ji_ 0, ji_ 0, ji_ 0, u7, u8, u9, u10] [] (N, K, (j_up M y1 1 0), g) Q) : j_J G jm_LP_merge d B S 147 [jr_ a0, u1, u2, u3, u4, u5, u6, u7, u8, u9, u10] [] (N, K, M, g) Q :=
  j_aload_n d_LP_merge_147 rfl <| j_getR d_LP_merge_148 f_LP_51 hk1 hg2 <| j_iconst d_LP_merge_151 <| j_putI d_LP_merge_152 f_LP_85 (⟨_, rfl, Or.inl rfl⟩) rfl hk2 <| j_iconst d_LP_merge_155 <| j_istore_n d_LP_merge_156 rfl rfl <| j_iconst d_LP_merge_157 <| j_istore_n d_LP_merge_158 rfl rfl <| j_iconst d_LP_merge_159 <| j_istore_n d_LP_merge_160 rfl rfl <| j_iconst d_LP_merge_161 <| j_istore d_LP_merge_162 rfl rfl <| j_iconst d_LP_merge_164 <| j_istore d_LP_merge_165 rfl rfl <| j_iconst d_LP_merge_167 <| j_istore d_LP_merge_168 rfl rfl <| k1
theorem s_LP_merge_170 {G : j_G} {d B S N : Nat} {K : Nat → Option (Nat × Nat)} {M : Nat → Int → Int} {g : Nat → Int → Option Nat} {Q : j_O → j_S → Prop} {a0 y1 n2 tg2 y4 : Nat} {x1 x2 x3 x4 x5 x6 : Int} {u7 u8 u9 u10 : j_V} (hk1 : K a0 = some (0, 0)) (hg2 : g a0 0 = some y1) (hk2 : K y1 = some (tg2 + 3, n2)) (r3 : 0 ≤ (0 : Int) := by omega) (r3' : (0 : Int) < (n2 : Int) := by omega) (hg5 : g y1 0 = some y4) (hk3 : K y4 = some (0, 1)) (r6 : -2147483648 ≤ x6 ∧ x6 ≤ 2147483647 := by omega) (r7 : -2147483648 ≤ (M y4 1) ∧ (M y4 1) ≤ 2147483647 := by omega) (k1 : (M y4 1) < x6 → j_J G jm_LP_merge d B S 424 [jr_ a0, ji_ x1, ji_ x2, ji_ x3, ji_ x4, ji_ x5, ji_ x6, u7, u8, u9, u10] [] (N, K, M, g) Q) (k2 : x6 ≤ (M y4 1) → j_J G jm_LP_merge d B S 184 [jr_ a0, ji_ x1, ji_ x2, ji_ x3, ji_ x4, ji_ x5, ji_ x6, u7, u8, u9, u10] [] (N, K, M, g) Q) : j_J G jm_LP_merge d B S 170 [jr_ a0, ji_ x1, ji_ x2, ji_ x3, ji_ x4, ji_ x5, ji_ x6, u7, u8, u9, u10] [] (N, K, M, g) Q :=
  j_iload d_LP_merge_170 rfl <| j_aload_n d_LP_merge_172 rfl <| j_getR d_LP_merge_173 f_LP_15 hk1 hg2 <| j_iconst d_LP_merge_176 <| j_aald d_LP_merge_177 hk2 r3 r3' hg5 <| j_getI d_LP_merge_178 f_LP_85 hk3 <| j_icmp_gt d_LP_merge_181 r6 r7 k1 k2
theorem s_LP_merge_184 {G : j_G} {d B S N : Nat} {K : Nat → Option (Nat × Nat)} {M : Nat → Int → Int} {g : Nat → Int → Option Nat} {Q : j_O → j_S → Prop} {a0 : Nat} {x1 x2 x3 x4 x5 x6 : Int} {u7 u8 u9 u10 : j_V} (r1 : -2147483648 ≤ x2 ∧ x2 ≤ 2147483647 := by omega) (k1 : x2 = 0 → j_J G jm_LP_merge d B S 424 [jr_ a0, ji_ x1, ji_ x2, ji_ x3, ji_ x4, ji_ x5, ji_ x6, u7, u8, u9, u10] [] (N, K, M, g) Q) (k2 : x2 ≠ 0 → j_J G jm_LP_merge d B S 188 [jr_ a0, ji_ x1, ji_ x2, ji_ x3, ji_ x4, ji_ x5, ji_ x6, u7, u8, u9, u10] [] (N, K, M, g) Q) : j_J G jm_LP_merge d B S 184 [jr_ a0, ji_ x1, ji_ x2, ji_ x3, ji_ x4, ji_ x5, ji_ x6, u7, u8, u9, u10] [] (N, K, M, g) Q :=
  j_iload_n d_LP_merge_184 rfl <| j_if_eq d_LP_merge_185 r1 k1 k2
theorem s_LP_merge_188 {G : j_G} {d B S N : Nat} {K : Nat → Option (Nat × Nat)} {M : Nat → Int → Int} {g : Nat → Int → Option Nat} {Q : j_O → j_S → Prop} {a0 y1 n2 tg2 y4 : Nat} {x1 x2 x3 x4 x5 x6 : Int} {u7 u8 u9 u10 : j_V} (hk1 : K a0 = some (0, 0)) (hg2 : g a0 0 = some y1) (hk2 : K y1 = some (tg2 + 3, n2)) (r3 : 0 ≤ (0 : Int) := by omega) (r3' : (0 : Int) < (n2 : Int) := by omega) (hg5 : g y1 0 = some y4) (hk3 : K y4 = some (0, 1)) (r6 : -2147483648 ≤ x6 ∧ x6 ≤ 2147483647 := by omega) (r7 : -2147483648 ≤ (M y4 1) ∧ (M y4 1) ≤ 2147483647 := by omega) (k1 : x6 ≠ (M y4 1) → j_J G jm_LP_merge d B S 207 [jr_ a0, ji_ x1, ji_ x2, ji_ x3, ji_ x4, ji_ x5, ji_ x6, u7, u8, u9, u10] [ji_ 0] (N, K, M, g) Q) (k2 : x6 = (M y4 1) → j_J G jm_LP_merge d B S 207 [jr_ a0, ji_ x1, ji_ x2, ji_ x3, ji_ x4, ji_ x5, ji_ x6, u7, u8, u9, u10] [ji_ 1] (N, K, M, g) Q) : j_J G jm_LP_merge d B S 188 [jr_ a0, ji_ x1, ji_ x2, ji_ x3, ji_ x4, ji_ x5, ji_ x6, u7, u8, u9, u10] [] (N, K, M, g) Q :=
  j_iload d_LP_merge_188 rfl <| j_aload_n d_LP_merge_190 rfl <| j_getR d_LP_merge_191 f_LP_15 hk1 hg2 <| j_iconst d_LP_merge_194 <| j_aald d_LP_merge_195 hk2 r3 r3' hg5 <| j_getI d_LP_merge_196 f_LP_85 hk3 <| j_icmp_ne d_LP_merge_199 r6 r7 (fun h => j_iconst d_LP_merge_206 <| k1 h) (fun h => j_iconst d_LP_merge_202 <| j_goto d_LP_merge_203 <| k2 h)
theorem s_LP_merge_202 {G : j_G} {d B S N : Nat} {K : Nat → Option (Nat × Nat)} {M : Nat → Int → Int} {g : Nat → Int → Option Nat} {Q : j_O → j_S → Prop} {a0 : Nat} {x1 x2 x3 x4 x5 x6 : Int} {u7 u8 u9 u10 : j_V}  (k1 : j_J G jm_LP_merge d B S 207 [jr_ a0, ji_ x1, ji_ x2, ji_ x3, ji_ x4, ji_ x5, ji_ x6, u7, u8, u9, u10] [ji_ 1] (N, K, M, g) Q) : j_J G jm_LP_merge d B S 202 [jr_ a0, ji_ x1, ji_ x2, ji_ x3, ji_ x4, ji_ x5, ji_ x6, u7, u8, u9, u10] [] (N, K, M, g) Q :=
  j_iconst d_LP_merge_202 <| j_goto d_LP_merge_203 k1
theorem s_LP_merge_206 {G : j_G} {d B S N : Nat} {K : Nat → Option (Nat × Nat)} {M : Nat → Int → Int} {g : Nat → Int → Option Nat} {Q : j_O → j_S → Prop} {a0 : Nat} {x1 x2 x3 x4 x5 x6 : Int} {u7 u8 u9 u10 : j_V}  (k1 : j_J G jm_LP_merge d B S 207 [jr_ a0, ji_ x1, ji_ x2, ji_ x3, ji_ x4, ji_ x5, ji_ x6, u7, u8, u9, u10] [ji_ 0] (N, K, M, g) Q) : j_J G jm_LP_merge d B S 206 [jr_ a0, ji_ x1, ji_ x2, ji_ x3, ji_ x4, ji_ x5, ji_ x6, u7, u8, u9, u10] [] (N, K, M, g) Q :=
  j_iconst d_LP_merge_206 <| k1
theorem s_LP_merge_207 {G : j_G} {d B S N : Nat} {K : Nat → Option (Nat × Nat)} {M : Nat → Int → Int} {g : Nat → Int → Option Nat} {Q : j_O → j_S → Prop} {a0 : Nat} {x1 x2 x3 x4 x5 x6 t0 : Int} {u7 u8 u9 u10 : j_V} (r1 : -2147483648 ≤ t0 ∧ t0 ≤ 2147483647 := by omega) (k1 : t0 ≠ 0 → j_J G jm_LP_merge d B S 240 [jr_ a0, ji_ x1, ji_ x2, ji_ x3, ji_ x4, ji_ x5, ji_ x6, ji_ t0, u8, u9, u10] [] (N, K, M, g) Q) (k2 : t0 = 0 → j_J G jm_LP_merge d B S 214 [jr_ a0, ji_ x1, ji_ x2, ji_ x3, ji_ x4, ji_ x5, ji_ x6, ji_ t0, u8, u9, u10] [] (N, K, M, g) Q) : j_J G jm_LP_merge d B S 207 [jr_ a0, ji_ x1, ji_ x2, ji_ x3, ji_ x4, ji_ x5, ji_ x6, u7, u8, u9, u10] [ji_ t0] (N, K, M, g) Q :=
  j_istore d_LP_merge_207 rfl rfl <| j_iload d_LP_merge_209 rfl <| j_if_ne d_LP_merge_211 r1 k1 k2
theorem s_LP_merge_214 {G : j_G} {d B S N : Nat} {K : Nat → Option (Nat × Nat)} {M : Nat → Int → Int} {g : Nat → Int → Option Nat} {Q : j_O → j_S → Prop} {a0 y1 y3 n3 : Nat} {x1 x2 x3 x4 x5 x6 x7 : Int} {u8 u9 u10 : j_V} (hk1 : K a0 = some (0, 0)) (hg2 : g a0 4 = some y1) (hk2 : K y1 = some (0, 2)) (hg4 : g y1 2 = some y3) (hk3 : K y3 = some (2, n3)) (r5 : 0 ≤ x6 := by omega) (r5' : x6 < (n3 : Int) := by omega) (r6 : -2147483648 ≤ (M y3 x6) ∧ (M y3 x6) ≤ 2147483647 := by omega) (k1 : (M y3 x6) < 0 → j_J G jm_LP_merge d B S 170 [jr_ a0, ji_ x1, ji_ x2, ji_ x3, ji_ x4, ji_ x5, ji_ (x6 + 1), ji_ x7, u8, u9, u10] [] (N, K, M, g) Q) (k2 : 0 ≤ (M y3 x6) → j_J G jm_LP_merge d B S 227 [jr_ a0, ji_ x1, ji_ x2, ji_ x3, ji_ x4, ji_ x5, ji_ x6, ji_ x7, u8, u9, u10] [] (N, K, M, g) Q) : j_J G jm_LP_merge d B S 214 [jr_ a0, ji_ x1, ji_ x2, ji_ x3, ji_ x4, ji_ x5, ji_ x6, ji_ x7, u8, u9, u10] [] (N, K, M, g) Q :=
  j_aload_n d_LP_merge_214 rfl <| j_getR d_LP_merge_215 f_LP_44 hk1 hg2 <| j_getR d_LP_merge_218 f_LP_121 hk2 hg4 <| j_iload d_LP_merge_221 rfl <| j_bald d_LP_merge_223 hk3 r5 r5' <| j_if_lt d_LP_merge_224 r6 (fun h => j_iinc d_LP_merge_418 rfl rfl rfl <| j_goto d_LP_merge_421 <| k1 h) k2
theorem s_LP_merge_227 {G : j_G} {d B S N : Nat} {K : Nat → Option (Nat × Nat)} {M : Nat → Int → Int} {g : Nat → Int → Option Nat} {Q : j_O → j_S → Prop} {a0 y1 y3 n3 : Nat} {x1 x2 x3 x4 x5 x6 x7 : Int} {u8 u9 u10 : j_V} (hk1 : K a0 = some (0, 0)) (hg2 : g a0 5 = some y1) (hk2 : K y1 = some (0, 2)) (hg4 : g y1 2 = some y3) (hk3 : K y3 = some (2, n3)) (r5 : 0 ≤ x6 := by omega) (r5' : x6 < (n3 : Int) := by omega) (r6 : -2147483648 ≤ (M y3 x6) ∧ (M y3 x6) ≤ 2147483647 := by omega) (k1 : (M y3 x6) < 0 → j_J G jm_LP_merge d B S 170 [jr_ a0, ji_ x1, ji_ x2, ji_ x3, ji_ x4, ji_ x5, ji_ (x6 + 1), ji_ x7, u8, u9, u10] [] (N, K, M, g) Q) (k2 : 0 ≤ (M y3 x6) → j_J G jm_LP_merge d B S 240 [jr_ a0, ji_ x1, ji_ x2, ji_ x3, ji_ x4, ji_ x5, ji_ x6, ji_ x7, u8, u9, u10] [] (N, K, M, g) Q) : j_J G jm_LP_merge d B S 227 [jr_ a0, ji_ x1, ji_ x2, ji_ x3, ji_ x4, ji_ x5, ji_ x6, ji_ x7, u8, u9, u10] [] (N, K, M, g) Q :=
  j_aload_n d_LP_merge_227 rfl <| j_getR d_LP_merge_228 f_LP_47 hk1 hg2 <| j_getR d_LP_merge_231 f_LP_121 hk2 hg4 <| j_iload d_LP_merge_234 rfl <| j_bald d_LP_merge_236 hk3 r5 r5' <| j_if_lt d_LP_merge_237 r6 (fun h => j_iinc d_LP_merge_418 rfl rfl rfl <| j_goto d_LP_merge_421 <| k1 h) k2
theorem s_LP_merge_240 {G : j_G} {d B S N : Nat} {K : Nat → Option (Nat × Nat)} {M : Nat → Int → Int} {g : Nat → Int → Option Nat} {Q : j_O → j_S → Prop} {a0 : Nat} {x1 x2 x3 x4 x5 x6 x7 : Int} {u8 u9 u10 : j_V} (r1 : -2147483648 ≤ x7 ∧ x7 ≤ 2147483647 := by omega) (k1 : x7 = 0 → j_J G jm_LP_merge d B S 257 [jr_ a0, ji_ x1, ji_ x2, ji_ x3, ji_ x4, ji_ x5, ji_ x6, ji_ x7, u8, u9, u10] [] (N, K, M, g) Q) (k2 : x7 ≠ 0 → j_J G jm_LP_merge d B S 245 [jr_ a0, ji_ x1, ji_ x2, ji_ x3, ji_ x4, ji_ x5, ji_ x6, ji_ x7, u8, u9, u10] [] (N, K, M, g) Q) : j_J G jm_LP_merge d B S 240 [jr_ a0, ji_ x1, ji_ x2, ji_ x3, ji_ x4, ji_ x5, ji_ x6, ji_ x7, u8, u9, u10] [] (N, K, M, g) Q :=
  j_iload d_LP_merge_240 rfl <| j_if_eq d_LP_merge_242 r1 k1 k2
theorem s_LP_merge_245 {G : j_G} {d B S N : Nat} {K : Nat → Option (Nat × Nat)} {M : Nat → Int → Int} {g : Nat → Int → Option Nat} {Q : j_O → j_S → Prop} {a0 y1 n2 tg2 y4 : Nat} {x1 x2 x3 x4 x5 x6 x7 : Int} {u8 u9 u10 : j_V} (hk1 : K a0 = some (0, 0)) (hg2 : g a0 0 = some y1) (hk2 : K y1 = some (tg2 + 3, n2)) (r3 : 0 ≤ (1 : Int) := by omega) (r3' : (1 : Int) < (n2 : Int) := by omega) (hg5 : g y1 1 = some y4) (hk3 : K y4 = some (0, 1)) (k1 : j_J G jm_LP_merge d B S 267 [jr_ a0, ji_ x1, ji_ x2, ji_ x3, ji_ x4, ji_ x5, ji_ x6, ji_ x7, u8, u9, u10] [ji_ (M y4 1)] (N, K, M, g) Q) : j_J G jm_LP_merge d B S 245 [jr_ a0, ji_ x1, ji_ x2, ji_ x3, ji_ x4, ji_ x5, ji_ x6, ji_ x7, u8, u9, u10] [] (N, K, M, g) Q :=
  j_aload_n d_LP_merge_245 rfl <| j_getR d_LP_merge_246 f_LP_15 hk1 hg2 <| j_iconst d_LP_merge_249 <| j_aald d_LP_merge_250 hk2 r3 r3' hg5 <| j_getI d_LP_merge_251 f_LP_85 hk3 <| j_goto d_LP_merge_254 k1
theorem s_LP_merge_257 {G : j_G} {d B S N : Nat} {K : Nat → Option (Nat × Nat)} {M : Nat → Int → Int} {g : Nat → Int → Option Nat} {Q : j_O → j_S → Prop} {a0 y1 y3 n3 : Nat} {x1 x2 x3 x4 x5 x6 x7 : Int} {u8 u9 u10 : j_V} (hk1 : K a0 = some (0, 0)) (hg2 : g a0 4 = some y1) (hk2 : K y1 = some (0, 2)) (hg4 : g y1 2 = some y3) (hk3 : K y3 = some (2, n3)) (r5 : 0 ≤ x6 := by omega) (r5' : x6 < (n3 : Int) := by omega) (k1 : j_J G jm_LP_merge d B S 267 [jr_ a0, ji_ x1, ji_ x2, ji_ x3, ji_ x4, ji_ x5, ji_ x6, ji_ x7, u8, u9, u10] [ji_ (M y3 x6)] (N, K, M, g) Q) : j_J G jm_LP_merge d B S 257 [jr_ a0, ji_ x1, ji_ x2, ji_ x3, ji_ x4, ji_ x5, ji_ x6, ji_ x7, u8, u9, u10] [] (N, K, M, g) Q :=
  j_aload_n d_LP_merge_257 rfl <| j_getR d_LP_merge_258 f_LP_44 hk1 hg2 <| j_getR d_LP_merge_261 f_LP_121 hk2 hg4 <| j_iload d_LP_merge_264 rfl <| j_bald d_LP_merge_266 hk3 r5 r5' <| k1
theorem s_LP_merge_267 {G : j_G} {d B S N : Nat} {K : Nat → Option (Nat × Nat)} {M : Nat → Int → Int} {g : Nat → Int → Option Nat} {Q : j_O → j_S → Prop} {a0 : Nat} {x1 x2 x3 x4 x5 x6 x7 t0 : Int} {u8 u9 u10 : j_V} (r1 : -2147483648 ≤ x7 ∧ x7 ≤ 2147483647 := by omega) (k1 : x7 = 0 → j_J G jm_LP_merge d B S 286 [jr_ a0, ji_ x1, ji_ x2, ji_ x3, ji_ x4, ji_ x5, ji_ x6, ji_ x7, ji_ t0, u9, u10] [] (N, K, M, g) Q) (k2 : x7 ≠ 0 → j_J G jm_LP_merge d B S 274 [jr_ a0, ji_ x1, ji_ x2, ji_ x3, ji_ x4, ji_ x5, ji_ x6, ji_ x7, ji_ t0, u9, u10] [] (N, K, M, g) Q) : j_J G jm_LP_merge d B S 267 [jr_ a0, ji_ x1, ji_ x2, ji_ x3, ji_ x4, ji_ x5, ji_ x6, ji_ x7, u8, u9, u10] [ji_ t0] (N, K, M, g) Q :=
  j_istore d_LP_merge_267 rfl rfl <| j_iload d_LP_merge_269 rfl <| j_if_eq d_LP_merge_271 r1 k1 k2
theorem s_LP_merge_274 {G : j_G} {d B S N : Nat} {K : Nat → Option (Nat × Nat)} {M : Nat → Int → Int} {g : Nat → Int → Option Nat} {Q : j_O → j_S → Prop} {a0 y1 n2 tg2 y4 : Nat} {x1 x2 x3 x4 x5 x6 x7 x8 : Int} {u9 u10 : j_V} (hk1 : K a0 = some (0, 0)) (hg2 : g a0 0 = some y1) (hk2 : K y1 = some (tg2 + 3, n2)) (r3 : 0 ≤ (2 : Int) := by omega) (r3' : (2 : Int) < (n2 : Int) := by omega) (hg5 : g y1 2 = some y4) (hk3 : K y4 = some (0, 1)) (k1 : j_J G jm_LP_merge d B S 296 [jr_ a0, ji_ x1, ji_ x2, ji_ x3, ji_ x4, ji_ x5, ji_ x6, ji_ x7, ji_ x8, u9, u10] [ji_ (M y4 1)] (N, K, M, g) Q) : j_J G jm_LP_merge d B S 274 [jr_ a0, ji_ x1, ji_ x2, ji_ x3, ji_ x4, ji_ x5, ji_ x6, ji_ x7, ji_ x8, u9, u10] [] (N, K, M, g) Q :=
  j_aload_n d_LP_merge_274 rfl <| j_getR d_LP_merge_275 f_LP_15 hk1 hg2 <| j_iconst d_LP_merge_278 <| j_aald d_LP_merge_279 hk2 r3 r3' hg5 <| j_getI d_LP_merge_280 f_LP_85 hk3 <| j_goto d_LP_merge_283 k1
theorem s_LP_merge_286 {G : j_G} {d B S N : Nat} {K : Nat → Option (Nat × Nat)} {M : Nat → Int → Int} {g : Nat → Int → Option Nat} {Q : j_O → j_S → Prop} {a0 y1 y3 n3 : Nat} {x1 x2 x3 x4 x5 x6 x7 x8 : Int} {u9 u10 : j_V} (hk1 : K a0 = some (0, 0)) (hg2 : g a0 5 = some y1) (hk2 : K y1 = some (0, 2)) (hg4 : g y1 2 = some y3) (hk3 : K y3 = some (2, n3)) (r5 : 0 ≤ x6 := by omega) (r5' : x6 < (n3 : Int) := by omega) (k1 : j_J G jm_LP_merge d B S 296 [jr_ a0, ji_ x1, ji_ x2, ji_ x3, ji_ x4, ji_ x5, ji_ x6, ji_ x7, ji_ x8, u9, u10] [ji_ (M y3 x6)] (N, K, M, g) Q) : j_J G jm_LP_merge d B S 286 [jr_ a0, ji_ x1, ji_ x2, ji_ x3, ji_ x4, ji_ x5, ji_ x6, ji_ x7, ji_ x8, u9, u10] [] (N, K, M, g) Q :=
  j_aload_n d_LP_merge_286 rfl <| j_getR d_LP_merge_287 f_LP_47 hk1 hg2 <| j_getR d_LP_merge_290 f_LP_121 hk2 hg4 <| j_iload d_LP_merge_293 rfl <| j_bald d_LP_merge_295 hk3 r5 r5' <| k1
theorem s_LP_merge_296 {G : j_G} {d B S N : Nat} {K : Nat → Option (Nat × Nat)} {M : Nat → Int → Int} {g : Nat → Int → Option Nat} {Q : j_O → j_S → Prop} {a0 : Nat} {x1 x2 x3 x4 x5 x6 x7 x8 t0 : Int} {u9 u10 : j_V} {q : Int → (Nat → Int → Int) → Prop} (hk1 : K a0 = some (0, 0)) (hC : j_Ct G jm_LP_clash d 0 0 [jr_ a0, ji_ x3, ji_ x6, ji_ x4, ji_ x8, ji_ x5, ji_ t0] (N, K, M, g) (j_pI N K g q)) (k1 : ∀ z M', q z M' → j_J G jm_LP_merge (d + 1) B S 313 [jr_ a0, ji_ x1, ji_ x2, ji_ x3, ji_ x4, ji_ x5, ji_ x6, ji_ x7, ji_ x8, ji_ t0, u10] [ji_ z] (N, K, M', g) Q) : j_J G jm_LP_merge (d + 1) B S 296 [jr_ a0, ji_ x1, ji_ x2, ji_ x3, ji_ x4, ji_ x5, ji_ x6, ji_ x7, ji_ x8, u9, u10] [ji_ t0] (N, K, M, g) Q :=
  j_istore d_LP_merge_296 rfl rfl <| j_aload_n d_LP_merge_298 rfl <| j_iload_n d_LP_merge_299 rfl <| j_iload d_LP_merge_300 rfl <| j_iload d_LP_merge_302 rfl <| j_iload d_LP_merge_304 rfl <| j_iload d_LP_merge_306 rfl <| j_iload d_LP_merge_308 rfl <| j_aVI (as := [ji_ x3, ji_ x6, ji_ x4, ji_ x8, ji_ x5, ji_ t0]) (rest := []) d_LP_merge_310 c_LP_232 hk1 rfl (Nat.le_of_ble_eq_true rfl) hC k1
theorem s_LP_merge_313 {G : j_G} {d B S N : Nat} {K : Nat → Option (Nat × Nat)} {M : Nat → Int → Int} {g : Nat → Int → Option Nat} {Q : j_O → j_S → Prop} {a0 : Nat} {x1 x2 x3 x4 x5 x6 x7 x8 x9 t0 : Int} {u10 : j_V} (r1 : -2147483648 ≤ t0 ∧ t0 ≤ 2147483647 := by omega) (k1 : t0 = 0 → j_J G jm_LP_merge d B S 326 [jr_ a0, ji_ x1, ji_ x2, ji_ x3, ji_ x4, ji_ x5, ji_ x6, ji_ x7, ji_ x8, ji_ x9, ji_ t0] [ji_ 0, ji_ x1] (N, K, M, g) Q) (k2 : t0 ≠ 0 → j_J G jm_LP_merge d B S 326 [jr_ a0, ji_ x1, ji_ x2, ji_ x3, ji_ x4, ji_ x5, ji_ x6, ji_ x7, ji_ x8, ji_ x9, ji_ t0] [ji_ 1, ji_ x1] (N, K, M, g) Q) : j_J G jm_LP_merge d B S 313 [jr_ a0, ji_ x1, ji_ x2, ji_ x3, ji_ x4, ji_ x5, ji_ x6, ji_ x7, ji_ x8, ji_ x9, u10] [ji_ t0] (N, K, M, g) Q :=
  j_istore d_LP_merge_313 rfl rfl <| j_iload_n d_LP_merge_315 rfl <| j_iload d_LP_merge_316 rfl <| j_if_eq d_LP_merge_318 r1 (fun h => j_iconst d_LP_merge_325 <| k1 h) (fun h => j_iconst d_LP_merge_321 <| j_goto d_LP_merge_322 <| k2 h)
theorem s_LP_merge_321 {G : j_G} {d B S N : Nat} {K : Nat → Option (Nat × Nat)} {M : Nat → Int → Int} {g : Nat → Int → Option Nat} {Q : j_O → j_S → Prop} {a0 : Nat} {x1 x2 x3 x4 x5 x6 x7 x8 x9 x10 t0 : Int}  (k1 : j_J G jm_LP_merge d B S 326 [jr_ a0, ji_ x1, ji_ x2, ji_ x3, ji_ x4, ji_ x5, ji_ x6, ji_ x7, ji_ x8, ji_ x9, ji_ x10] [ji_ 1, ji_ t0] (N, K, M, g) Q) : j_J G jm_LP_merge d B S 321 [jr_ a0, ji_ x1, ji_ x2, ji_ x3, ji_ x4, ji_ x5, ji_ x6, ji_ x7, ji_ x8, ji_ x9, ji_ x10] [ji_ t0] (N, K, M, g) Q :=
  j_iconst d_LP_merge_321 <| j_goto d_LP_merge_322 k1
theorem s_LP_merge_325 {G : j_G} {d B S N : Nat} {K : Nat → Option (Nat × Nat)} {M : Nat → Int → Int} {g : Nat → Int → Option Nat} {Q : j_O → j_S → Prop} {a0 : Nat} {x1 x2 x3 x4 x5 x6 x7 x8 x9 x10 t0 : Int}  (k1 : j_J G jm_LP_merge d B S 326 [jr_ a0, ji_ x1, ji_ x2, ji_ x3, ji_ x4, ji_ x5, ji_ x6, ji_ x7, ji_ x8, ji_ x9, ji_ x10] [ji_ 0, ji_ t0] (N, K, M, g) Q) : j_J G jm_LP_merge d B S 325 [jr_ a0, ji_ x1, ji_ x2, ji_ x3, ji_ x4, ji_ x5, ji_ x6, ji_ x7, ji_ x8, ji_ x9, ji_ x10] [ji_ t0] (N, K, M, g) Q :=
  j_iconst d_LP_merge_325 <| k1
theorem s_LP_merge_326 {G : j_G} {d B S N : Nat} {K : Nat → Option (Nat × Nat)} {M : Nat → Int → Int} {g : Nat → Int → Option Nat} {Q : j_O → j_S → Prop} {a0 : Nat} {x1 x2 x3 x4 x5 x6 x7 x8 x9 x10 t0 t1 : Int} (r1 : -2147483648 ≤ x10 ∧ x10 ≤ 2147483647 := by omega) (k1 : x10 = 0 → j_J G jm_LP_merge d B S 348 [jr_ a0, ji_ (t0 + t1), ji_ x2, ji_ x3, ji_ x4, ji_ x5, ji_ x6, ji_ x7, ji_ x8, ji_ x9, ji_ x10] [] (N, K, M, g) Q) (k2 : x10 ≠ 0 → j_J G jm_LP_merge d B S 333 [jr_ a0, ji_ (t0 + t1), ji_ x2, ji_ x3, ji_ x4, ji_ x5, ji_ x6, ji_ x7, ji_ x8, ji_ x9, ji_ x10] [] (N, K, M, g) Q) : j_J G jm_LP_merge d B S 326 [jr_ a0, ji_ x1, ji_ x2, ji_ x3, ji_ x4, ji_ x5, ji_ x6, ji_ x7, ji_ x8, ji_ x9, ji_ x10] [ji_ t1, ji_ t0] (N, K, M, g) Q :=
  j_iadd d_LP_merge_326 <| j_istore_n d_LP_merge_327 rfl rfl <| j_iload d_LP_merge_328 rfl <| j_if_eq d_LP_merge_330 r1 k1 k2
theorem s_LP_merge_333 {G : j_G} {d B S N : Nat} {K : Nat → Option (Nat × Nat)} {M : Nat → Int → Int} {g : Nat → Int → Option Nat} {Q : j_O → j_S → Prop} {a0 : Nat} {x1 x2 x3 x4 x5 x6 x7 x8 x9 x10 : Int} {q : Int → (Nat → Int → Int) → Prop} (hk1 : K a0 = some (0, 0)) (hC : j_Ct G jm_LP_putClash d 0 0 [jr_ a0, ji_ x4, ji_ x8, ji_ x5, ji_ x9] (N, K, M, g) (j_pI N K g q)) (k1 : ∀ z M', q z M' → j_J G jm_LP_merge (d + 1) B S 345 [jr_ a0, ji_ x1, ji_ x2, ji_ x3, ji_ x4, ji_ x5, ji_ x6, ji_ x7, ji_ x8, ji_ x9, ji_ x10] [ji_ z] (N, K, M', g) Q) : j_J G jm_LP_merge (d + 1) B S 333 [jr_ a0, ji_ x1, ji_ x2, ji_ x3, ji_ x4, ji_ x5, ji_ x6, ji_ x7, ji_ x8, ji_ x9, ji_ x10] [] (N, K, M, g) Q :=
  j_aload_n d_LP_merge_333 rfl <| j_iload d_LP_merge_334 rfl <| j_iload d_LP_merge_336 rfl <| j_iload d_LP_merge_338 rfl <| j_iload d_LP_merge_340 rfl <| j_aVI (as := [ji_ x4, ji_ x8, ji_ x5, ji_ x9]) (rest := []) d_LP_merge_342 c_LP_236 hk1 rfl (Nat.le_of_ble_eq_true rfl) hC k1
theorem s_LP_merge_345 {G : j_G} {d B S N : Nat} {K : Nat → Option (Nat × Nat)} {M : Nat → Int → Int} {g : Nat → Int → Option Nat} {Q : j_O → j_S → Prop} {a0 : Nat} {x1 x2 x3 x4 x5 x6 x7 x8 x9 x10 t0 : Int}  (k1 : j_J G jm_LP_merge d B S 363 [jr_ a0, ji_ x1, ji_ x2, ji_ x3, ji_ x4, ji_ x5, ji_ x6, ji_ x7, ji_ x8, ji_ x9, ji_ x10] [ji_ t0] (N, K, M, g) Q) : j_J G jm_LP_merge d B S 345 [jr_ a0, ji_ x1, ji_ x2, ji_ x3, ji_ x4, ji_ x5, ji_ x6, ji_ x7, ji_ x8, ji_ x9, ji_ x10] [ji_ t0] (N, K, M, g) Q :=
  j_goto d_LP_merge_345 k1
theorem s_LP_merge_348 {G : j_G} {d B S N : Nat} {K : Nat → Option (Nat × Nat)} {M : Nat → Int → Int} {g : Nat → Int → Option Nat} {Q : j_O → j_S → Prop} {a0 : Nat} {x1 x2 x3 x4 x5 x6 x7 x8 x9 x10 : Int} {q : Int → (Nat → Int → Int) → Prop} (hk1 : K a0 = some (0, 0)) (hC : j_Ct G jm_LP_putPart d 0 0 [jr_ a0, ji_ x3, ji_ x6, ji_ x4, ji_ x8, ji_ x5, ji_ x9] (N, K, M, g) (j_pI N K g q)) (k1 : ∀ z M', q z M' → j_J G jm_LP_merge (d + 1) B S 363 [jr_ a0, ji_ x1, ji_ x2, ji_ x3, ji_ x4, ji_ x5, ji_ x6, ji_ x7, ji_ x8, ji_ x9, ji_ x10] [ji_ z] (N, K, M', g) Q) : j_J G jm_LP_merge (d + 1) B S 348 [jr_ a0, ji_ x1, ji_ x2, ji_ x3, ji_ x4, ji_ x5, ji_ x6, ji_ x7, ji_ x8, ji_ x9, ji_ x10] [] (N, K, M, g) Q :=
  j_aload_n d_LP_merge_348 rfl <| j_iload_n d_LP_merge_349 rfl <| j_iload d_LP_merge_350 rfl <| j_iload d_LP_merge_352 rfl <| j_iload d_LP_merge_354 rfl <| j_iload d_LP_merge_356 rfl <| j_iload d_LP_merge_358 rfl <| j_aVI (as := [ji_ x3, ji_ x6, ji_ x4, ji_ x8, ji_ x5, ji_ x9]) (rest := []) d_LP_merge_360 c_LP_240 hk1 rfl (Nat.le_of_ble_eq_true rfl) hC k1
theorem s_LP_merge_363 {G : j_G} {d B S N : Nat} {K : Nat → Option (Nat × Nat)} {M : Nat → Int → Int} {g : Nat → Int → Option Nat} {Q : j_O → j_S → Prop} {a0 : Nat} {x1 x2 x3 x4 x5 x6 x7 x8 x9 x10 t0 : Int} (r1 : -2147483648 ≤ t0 ∧ t0 ≤ 2147483647 := by omega) (k1 : t0 = 0 → j_J G jm_LP_merge d B S 170 [jr_ a0, ji_ x1, ji_ 0, ji_ (x6 + 1), ji_ (x8 + 1), ji_ (x9 + 1), ji_ (x6 + 1), ji_ x7, ji_ x8, ji_ x9, ji_ x10] [] (N, K, M, g) Q) (k2 : t0 ≠ 0 → j_J G jm_LP_merge d B S 368 [jr_ a0, ji_ x1, ji_ t0, ji_ x3, ji_ x4, ji_ x5, ji_ x6, ji_ x7, ji_ x8, ji_ x9, ji_ x10] [] (N, K, M, g) Q) : j_J G jm_LP_merge d B S 363 [jr_ a0, ji_ x1, ji_ x2, ji_ x3, ji_ x4, ji_ x5, ji_ x6, ji_ x7, ji_ x8, ji_ x9, ji_ x10] [ji_ t0] (N, K, M, g) Q :=
  j_istore_n d_LP_merge_363 rfl rfl <| j_iload_n d_LP_merge_364 rfl <| j_if_eq d_LP_merge_365 r1 (fun h => j_iconst d_LP_merge_399 <| j_istore_n d_LP_merge_400 rfl rfl <| j_iload d_LP_merge_401 rfl <| j_iconst d_LP_merge_403 <| j_iadd d_LP_merge_404 <| j_istore_n d_LP_merge_405 rfl rfl <| j_iload d_LP_merge_406 rfl <| j_iconst d_LP_merge_408 <| j_iadd d_LP_merge_409 <| j_istore d_LP_merge_410 rfl rfl <| j_iload d_LP_merge_412 rfl <| j_iconst d_LP_merge_414 <| j_iadd d_LP_merge_415 <| j_istore d_LP_merge_416 rfl rfl <| j_iinc d_LP_merge_418 rfl rfl rfl <| j_goto d_LP_merge_421 <| k1 h) k2
theorem s_LP_merge_368 {G : j_G} {d B S N : Nat} {K : Nat → Option (Nat × Nat)} {M : Nat → Int → Int} {g : Nat → Int → Option Nat} {Q : j_O → j_S → Prop} {a0 : Nat} {x1 x2 x3 x4 x5 x6 x7 x8 x9 x10 : Int} (r1 : -2147483648 ≤ x7 ∧ x7 ≤ 2147483647 := by omega) (k1 : x7 ≠ 0 → j_J G jm_LP_merge d B S 170 [jr_ a0, ji_ x1, ji_ 1, ji_ (x6 + 1), ji_ (x8 + 1), ji_ (x9 + 1), ji_ (x6 + 1), ji_ x7, ji_ x8, ji_ x9, ji_ x10] [] (N, K, M, g) Q) (k2 : x7 = 0 → j_J G jm_LP_merge d B S 373 [jr_ a0, ji_ x1, ji_ x2, ji_ x3, ji_ x4, ji_ x5, ji_ x6, ji_ x7, ji_ x8, ji_ x9, ji_ x10] [] (N, K, M, g) Q) : j_J G jm_LP_merge d B S 368 [jr_ a0, ji_ x1, ji_ x2, ji_ x3, ji_ x4, ji_ x5, ji_ x6, ji_ x7, ji_ x8, ji_ x9, ji_ x10] [] (N, K, M, g) Q :=
  j_iload d_LP_merge_368 rfl <| j_if_ne d_LP_merge_370 r1 (fun h => j_iconst d_LP_merge_395 <| j_goto d_LP_merge_396 <| j_istore_n d_LP_merge_400 rfl rfl <| j_iload d_LP_merge_401 rfl <| j_iconst d_LP_merge_403 <| j_iadd d_LP_merge_404 <| j_istore_n d_LP_merge_405 rfl rfl <| j_iload d_LP_merge_406 rfl <| j_iconst d_LP_merge_408 <| j_iadd d_LP_merge_409 <| j_istore d_LP_merge_410 rfl rfl <| j_iload d_LP_merge_412 rfl <| j_iconst d_LP_merge_414 <| j_iadd d_LP_merge_415 <| j_istore d_LP_merge_416 rfl rfl <| j_iinc d_LP_merge_418 rfl rfl rfl <| j_goto d_LP_merge_421 <| k1 h) k2
theorem s_LP_merge_373 {G : j_G} {d B S N : Nat} {K : Nat → Option (Nat × Nat)} {M : Nat → Int → Int} {g : Nat → Int → Option Nat} {Q : j_O → j_S → Prop} {a0 y1 y3 n2 tg2 y6 y8 n4 : Nat} {x1 x2 x3 x4 x5 x6 x7 x8 x9 x10 : Int} {q : Int → (Nat → Int → Int) → Prop} (hk1 : K a0 = some (0, 0)) (hg2 : g a0 6 = some y1) (hg4 : g a0 0 = some y3) (hk2 : K y3 = some (tg2 + 3, n2)) (r5 : 0 ≤ (0 : Int) := by omega) (r5' : (0 : Int) < (n2 : Int) := by omega) (hg7 : g y3 0 = some y6) (hk3 : K y6 = some (0, 1)) (hg9 : g y6 0 = some y8) (hk4 : K y8 = some (2, n4)) (r10 : 0 ≤ x6 := by omega) (r10' : x6 < (n4 : Int) := by omega) (hk5 : K y1 = some (0, 1)) (hC : j_Ct G jm_Tx_add d 0 0 [jr_ y1, ji_ (M y8 x6)] (N, K, M, g) (j_pI N K g q)) (k1 : ∀ z M', q z M' → j_J G jm_LP_merge (d + 1) B S 392 [jr_ a0, ji_ x1, ji_ x2, ji_ x3, ji_ x4, ji_ x5, ji_ x6, ji_ x7, ji_ x8, ji_ x9, ji_ x10] [ji_ z] (N, K, M', g) Q) : j_J G jm_LP_merge (d + 1) B S 373 [jr_ a0, ji_ x1, ji_ x2, ji_ x3, ji_ x4, ji_ x5, ji_ x6, ji_ x7, ji_ x8, ji_ x9, ji_ x10] [] (N, K, M, g) Q :=
  j_aload_n d_LP_merge_373 rfl <| j_getR d_LP_merge_374 f_LP_51 hk1 hg2 <| j_aload_n d_LP_merge_377 rfl <| j_getR d_LP_merge_378 f_LP_15 hk1 hg4 <| j_iconst d_LP_merge_381 <| j_aald d_LP_merge_382 hk2 r5 r5' hg7 <| j_getR d_LP_merge_383 f_LP_92 hk3 hg9 <| j_iload d_LP_merge_386 rfl <| j_bald d_LP_merge_388 hk4 r10 r10' <| j_aVI (as := [ji_ (M y8 x6)]) (rest := []) d_LP_merge_389 c_LP_89 hk5 rfl (Nat.le_of_ble_eq_true rfl) hC k1
theorem s_LP_merge_392 {G : j_G} {d B S N : Nat} {K : Nat → Option (Nat × Nat)} {M : Nat → Int → Int} {g : Nat → Int → Option Nat} {Q : j_O → j_S → Prop} {a0 : Nat} {x1 x2 x3 x4 x5 x6 x7 x8 x9 x10 t0 : Int} (r1 : -2147483648 ≤ t0 ∧ t0 ≤ 2147483647 := by omega) (k1 : t0 = 0 → j_J G jm_LP_merge d B S 170 [jr_ a0, ji_ x1, ji_ 0, ji_ (x6 + 1), ji_ (x8 + 1), ji_ (x9 + 1), ji_ (x6 + 1), ji_ x7, ji_ x8, ji_ x9, ji_ x10] [] (N, K, M, g) Q) (k2 : t0 ≠ 0 → j_J G jm_LP_merge d B S 170 [jr_ a0, ji_ x1, ji_ 1, ji_ (x6 + 1), ji_ (x8 + 1), ji_ (x9 + 1), ji_ (x6 + 1), ji_ x7, ji_ x8, ji_ x9, ji_ x10] [] (N, K, M, g) Q) : j_J G jm_LP_merge d B S 392 [jr_ a0, ji_ x1, ji_ x2, ji_ x3, ji_ x4, ji_ x5, ji_ x6, ji_ x7, ji_ x8, ji_ x9, ji_ x10] [ji_ t0] (N, K, M, g) Q :=
  j_if_eq d_LP_merge_392 r1 (fun h => j_iconst d_LP_merge_399 <| j_istore_n d_LP_merge_400 rfl rfl <| j_iload d_LP_merge_401 rfl <| j_iconst d_LP_merge_403 <| j_iadd d_LP_merge_404 <| j_istore_n d_LP_merge_405 rfl rfl <| j_iload d_LP_merge_406 rfl <| j_iconst d_LP_merge_408 <| j_iadd d_LP_merge_409 <| j_istore d_LP_merge_410 rfl rfl <| j_iload d_LP_merge_412 rfl <| j_iconst d_LP_merge_414 <| j_iadd d_LP_merge_415 <| j_istore d_LP_merge_416 rfl rfl <| j_iinc d_LP_merge_418 rfl rfl rfl <| j_goto d_LP_merge_421 <| k1 h) (fun h => j_iconst d_LP_merge_395 <| j_goto d_LP_merge_396 <| j_istore_n d_LP_merge_400 rfl rfl <| j_iload d_LP_merge_401 rfl <| j_iconst d_LP_merge_403 <| j_iadd d_LP_merge_404 <| j_istore_n d_LP_merge_405 rfl rfl <| j_iload d_LP_merge_406 rfl <| j_iconst d_LP_merge_408 <| j_iadd d_LP_merge_409 <| j_istore d_LP_merge_410 rfl rfl <| j_iload d_LP_merge_412 rfl <| j_iconst d_LP_merge_414 <| j_iadd d_LP_merge_415 <| j_istore d_LP_merge_416 rfl rfl <| j_iinc d_LP_merge_418 rfl rfl rfl <| j_goto d_LP_merge_421 <| k2 h)
theorem s_LP_merge_395 {G : j_G} {d B S N : Nat} {K : Nat → Option (Nat × Nat)} {M : Nat → Int → Int} {g : Nat → Int → Option Nat} {Q : j_O → j_S → Prop} {a0 : Nat} {x1 x2 x3 x4 x5 x6 x7 x8 x9 x10 : Int}  (k1 : j_J G jm_LP_merge d B S 170 [jr_ a0, ji_ x1, ji_ 1, ji_ (x6 + 1), ji_ (x8 + 1), ji_ (x9 + 1), ji_ (x6 + 1), ji_ x7, ji_ x8, ji_ x9, ji_ x10] [] (N, K, M, g) Q) : j_J G jm_LP_merge d B S 395 [jr_ a0, ji_ x1, ji_ x2, ji_ x3, ji_ x4, ji_ x5, ji_ x6, ji_ x7, ji_ x8, ji_ x9, ji_ x10] [] (N, K, M, g) Q :=
  j_iconst d_LP_merge_395 <| j_goto d_LP_merge_396 (j_istore_n d_LP_merge_400 rfl rfl <| j_iload d_LP_merge_401 rfl <| j_iconst d_LP_merge_403 <| j_iadd d_LP_merge_404 <| j_istore_n d_LP_merge_405 rfl rfl <| j_iload d_LP_merge_406 rfl <| j_iconst d_LP_merge_408 <| j_iadd d_LP_merge_409 <| j_istore d_LP_merge_410 rfl rfl <| j_iload d_LP_merge_412 rfl <| j_iconst d_LP_merge_414 <| j_iadd d_LP_merge_415 <| j_istore d_LP_merge_416 rfl rfl <| j_iinc d_LP_merge_418 rfl rfl rfl <| j_goto d_LP_merge_421 <| k1)
theorem s_LP_merge_399 {G : j_G} {d B S N : Nat} {K : Nat → Option (Nat × Nat)} {M : Nat → Int → Int} {g : Nat → Int → Option Nat} {Q : j_O → j_S → Prop} {a0 : Nat} {x1 x2 x3 x4 x5 x6 x7 x8 x9 x10 : Int}  (k1 : j_J G jm_LP_merge d B S 170 [jr_ a0, ji_ x1, ji_ 0, ji_ (x6 + 1), ji_ (x8 + 1), ji_ (x9 + 1), ji_ (x6 + 1), ji_ x7, ji_ x8, ji_ x9, ji_ x10] [] (N, K, M, g) Q) : j_J G jm_LP_merge d B S 399 [jr_ a0, ji_ x1, ji_ x2, ji_ x3, ji_ x4, ji_ x5, ji_ x6, ji_ x7, ji_ x8, ji_ x9, ji_ x10] [] (N, K, M, g) Q :=
  j_iconst d_LP_merge_399 <| (j_istore_n d_LP_merge_400 rfl rfl <| j_iload d_LP_merge_401 rfl <| j_iconst d_LP_merge_403 <| j_iadd d_LP_merge_404 <| j_istore_n d_LP_merge_405 rfl rfl <| j_iload d_LP_merge_406 rfl <| j_iconst d_LP_merge_408 <| j_iadd d_LP_merge_409 <| j_istore d_LP_merge_410 rfl rfl <| j_iload d_LP_merge_412 rfl <| j_iconst d_LP_merge_414 <| j_iadd d_LP_merge_415 <| j_istore d_LP_merge_416 rfl rfl <| j_iinc d_LP_merge_418 rfl rfl rfl <| j_goto d_LP_merge_421 <| k1)
theorem s_LP_merge_400 {G : j_G} {d B S N : Nat} {K : Nat → Option (Nat × Nat)} {M : Nat → Int → Int} {g : Nat → Int → Option Nat} {Q : j_O → j_S → Prop} {a0 : Nat} {x1 x2 x3 x4 x5 x6 x7 x8 x9 x10 t0 : Int}  (k1 : j_J G jm_LP_merge d B S 170 [jr_ a0, ji_ x1, ji_ t0, ji_ (x6 + 1), ji_ (x8 + 1), ji_ (x9 + 1), ji_ (x6 + 1), ji_ x7, ji_ x8, ji_ x9, ji_ x10] [] (N, K, M, g) Q) : j_J G jm_LP_merge d B S 400 [jr_ a0, ji_ x1, ji_ x2, ji_ x3, ji_ x4, ji_ x5, ji_ x6, ji_ x7, ji_ x8, ji_ x9, ji_ x10] [ji_ t0] (N, K, M, g) Q :=
  j_istore_n d_LP_merge_400 rfl rfl <| j_iload d_LP_merge_401 rfl <| j_iconst d_LP_merge_403 <| j_iadd d_LP_merge_404 <| j_istore_n d_LP_merge_405 rfl rfl <| j_iload d_LP_merge_406 rfl <| j_iconst d_LP_merge_408 <| j_iadd d_LP_merge_409 <| j_istore d_LP_merge_410 rfl rfl <| j_iload d_LP_merge_412 rfl <| j_iconst d_LP_merge_414 <| j_iadd d_LP_merge_415 <| j_istore d_LP_merge_416 rfl rfl <| (j_iinc d_LP_merge_418 rfl rfl rfl <| j_goto d_LP_merge_421 <| k1)
theorem s_LP_merge_418 {G : j_G} {d B S N : Nat} {K : Nat → Option (Nat × Nat)} {M : Nat → Int → Int} {g : Nat → Int → Option Nat} {Q : j_O → j_S → Prop} {a0 : Nat} {x1 x2 x3 x4 x5 x6 x7 : Int} {u8 u9 u10 : j_V}  (k1 : j_J G jm_LP_merge d B S 170 [jr_ a0, ji_ x1, ji_ x2, ji_ x3, ji_ x4, ji_ x5, ji_ (x6 + 1), ji_ x7, u8, u9, u10] [] (N, K, M, g) Q) : j_J G jm_LP_merge d B S 418 [jr_ a0, ji_ x1, ji_ x2, ji_ x3, ji_ x4, ji_ x5, ji_ x6, ji_ x7, u8, u9, u10] [] (N, K, M, g) Q :=
  j_iinc d_LP_merge_418 rfl rfl rfl <| j_goto d_LP_merge_421 k1
theorem s_LP_merge_424 {G : j_G} {d B S N : Nat} {K : Nat → Option (Nat × Nat)} {M : Nat → Int → Int} {g : Nat → Int → Option Nat} {Q : j_O → j_S → Prop} {a0 : Nat} {x1 x2 x3 x4 x5 x6 : Int} {u7 u8 u9 u10 : j_V} (r1 : -2147483648 ≤ x2 ∧ x2 ≤ 2147483647 := by omega) (k1 : x2 ≠ 0 → j_J G jm_LP_merge d B S 431 [jr_ a0, ji_ x1, ji_ x2, ji_ x3, ji_ x4, ji_ x5, ji_ x6, u7, u8, u9, u10] [] (N, K, M, g) Q) (k2 : x2 = 0 → Q (.inl (some (ji_ (-2)))) (N, K, M, g)) : j_J G jm_LP_merge d B S 424 [jr_ a0, ji_ x1, ji_ x2, ji_ x3, ji_ x4, ji_ x5, ji_ x6, u7, u8, u9, u10] [] (N, K, M, g) Q :=
  j_iload_n d_LP_merge_424 rfl <| j_if_ne d_LP_merge_425 r1 k1 (fun h => j_bipush d_LP_merge_428 (by decide) <| j_ireturn d_LP_merge_430 rfl <| k2 h)
theorem s_LP_merge_428 {G : j_G} {d B S N : Nat} {K : Nat → Option (Nat × Nat)} {M : Nat → Int → Int} {g : Nat → Int → Option Nat} {Q : j_O → j_S → Prop} {a0 : Nat} {x1 x2 x3 x4 x5 x6 : Int} {u7 u8 u9 u10 : j_V}  (k1 : Q (.inl (some (ji_ (-2)))) (N, K, M, g)) : j_J G jm_LP_merge d B S 428 [jr_ a0, ji_ x1, ji_ x2, ji_ x3, ji_ x4, ji_ x5, ji_ x6, u7, u8, u9, u10] [] (N, K, M, g) Q :=
  j_bipush d_LP_merge_428 (by decide) <| j_ireturn d_LP_merge_430 rfl k1
theorem s_LP_merge_431 {G : j_G} {d B S N : Nat} {K : Nat → Option (Nat × Nat)} {M : Nat → Int → Int} {g : Nat → Int → Option Nat} {Q : j_O → j_S → Prop} {a0 y1 n2 tg2 y4 y6 : Nat} {x1 x2 x3 x4 x5 x6 : Int} {u7 u8 u9 u10 : j_V} {q : (Nat → Int → Int) → Prop} (hk1 : K a0 = some (0, 0)) (hg2 : g a0 0 = some y1) (hk2 : K y1 = some (tg2 + 3, n2)) (r3 : 0 ≤ (3 : Int) := by omega) (r3' : (3 : Int) < (n2 : Int) := by omega) (hg5 : g y1 3 = some y4) (hg7 : g a0 6 = some y6) (hk3 : K y4 = some (0, 1)) (hC : j_Ct G jm_Tx_copy d 0 0 [jr_ y4, jr_ y6] (N, K, M, g) (j_pV N K g q)) (k1 : ∀ M', q M' → j_J G jm_LP_merge (d + 1) B S 444 [jr_ a0, ji_ x1, ji_ x2, ji_ x3, ji_ x4, ji_ x5, ji_ x6, u7, u8, u9, u10] [] (N, K, M', g) Q) : j_J G jm_LP_merge (d + 1) B S 431 [jr_ a0, ji_ x1, ji_ x2, ji_ x3, ji_ x4, ji_ x5, ji_ x6, u7, u8, u9, u10] [] (N, K, M, g) Q :=
  j_aload_n d_LP_merge_431 rfl <| j_getR d_LP_merge_432 f_LP_15 hk1 hg2 <| j_iconst d_LP_merge_435 <| j_aald d_LP_merge_436 hk2 r3 r3' hg5 <| j_aload_n d_LP_merge_437 rfl <| j_getR d_LP_merge_438 f_LP_51 hk1 hg7 <| j_aVV (as := [jr_ y6]) (rest := []) d_LP_merge_441 c_LP_229 hk3 rfl (Nat.le_of_ble_eq_true rfl) hC k1
theorem s_LP_merge_444 {G : j_G} {d B S N : Nat} {K : Nat → Option (Nat × Nat)} {M : Nat → Int → Int} {g : Nat → Int → Option Nat} {Q : j_O → j_S → Prop} {a0 : Nat} {x1 x2 x3 x4 x5 x6 : Int} {u7 u8 u9 u10 : j_V}  (k1 : Q (.inl (some (ji_ x1))) (N, K, M, g)) : j_J G jm_LP_merge d B S 444 [jr_ a0, ji_ x1, ji_ x2, ji_ x3, ji_ x4, ji_ x5, ji_ x6, u7, u8, u9, u10] [] (N, K, M, g) Q :=
  j_iload_n d_LP_merge_444 rfl <| j_ireturn d_LP_merge_445 rfl k1
theorem s_LP_clash_0 {G : j_G} {d B S N : Nat} {K : Nat → Option (Nat × Nat)} {M : Nat → Int → Int} {g : Nat → Int → Option Nat} {Q : j_O → j_S → Prop} {a0 y1 n2 tg2 y4 n3 tg3 y7 : Nat} {x1 x2 x3 x4 x5 x6 : Int} {u7 u8 u9 : j_V} {q : Int → (Nat → Int → Int) → Prop} (hk1 : K a0 = some (0, 0)) (hg2 : g a0 0 = some y1) (hk2 : K y1 = some (tg2 + 3, n2)) (r3 : 0 ≤ (0 : Int) := by omega) (r3' : (0 : Int) < (n2 : Int) := by omega) (hg5 : g y1 0 = some y4) (hk3 : K y1 = some (tg3 + 3, n3)) (r6 : 0 ≤ (1 : Int) := by omega) (r6' : (1 : Int) < (n3 : Int) := by omega) (hg8 : g y1 1 = some y7) (hk4 : K y4 = some (0, 1)) (hC : j_Ct G jm_Tx_same d 0 0 [jr_ y4, ji_ x1, ji_ x2, jr_ y7, ji_ x3, ji_ x4] (N, K, M, g) (j_pI N K g q)) (k1 : ∀ z M', q z M' → j_J G jm_LP_clash (d + 1) B S 24 [jr_ a0, ji_ x1, ji_ x2, ji_ x3, ji_ x4, ji_ x5, ji_ x6, jr_ y4, u8, u9] [ji_ z] (N, K, M', g) Q) : j_J G jm_LP_clash (d + 1) B S 0 [jr_ a0, ji_ x1, ji_ x2, ji_ x3, ji_ x4, ji_ x5, ji_ x6, u7, u8, u9] [] (N, K, M, g) Q :=
  j_aload_n d_LP_clash_0 rfl <| j_getR d_LP_clash_1 f_LP_15 hk1 hg2 <| j_iconst d_LP_clash_4 <| j_aald d_LP_clash_5 hk2 r3 r3' hg5 <| j_astore d_LP_clash_6 rfl rfl <| j_aload d_LP_clash_8 rfl <| j_iload_n d_LP_clash_10 rfl <| j_iload_n d_LP_clash_11 rfl <| j_aload_n d_LP_clash_12 rfl <| j_getR d_LP_clash_13 f_LP_15 hk1 hg2 <| j_iconst d_LP_clash_16 <| j_aald d_LP_clash_17 hk3 r6 r6' hg8 <| j_iload_n d_LP_clash_18 rfl <| j_iload d_LP_clash_19 rfl <| j_aVI (as := [ji_ x1, ji_ x2, jr_ y7, ji_ x3, ji_ x4]) (rest := []) d_LP_clash_21 c_LP_243 hk4 rfl (Nat.le_of_ble_eq_true rfl) hC k1
theorem s_LP_clash_24 {G : j_G} {d B S N : Nat} {K : Nat → Option (Nat × Nat)} {M : Nat → Int → Int} {g : Nat → Int → Option Nat} {Q : j_O → j_S → Prop} {a0 a7 y1 n2 tg2 y4 : Nat} {x1 x2 x3 x4 x5 x6 t0 : Int} {u8 u9 : j_V} {q : Int → (Nat → Int → Int) → Prop} (hk1 : K a0 = some (0, 0)) (hg2 : g a0 0 = some y1) (hk2 : K y1 = some (tg2 + 3, n2)) (r3 : 0 ≤ (2 : Int) := by omega) (r3' : (2 : Int) < (n2 : Int) := by omega) (hg5 : g y1 2 = some y4) (hk3 : K a7 = some (0, 1)) (hC : j_Ct G jm_Tx_same d 0 0 [jr_ a7, ji_ x1, ji_ x2, jr_ y4, ji_ x5, ji_ x6] (N, K, M, g) (j_pI N K g q)) (k1 : ∀ z M', q z M' → j_J G jm_LP_clash (d + 1) B S 43 [jr_ a0, ji_ x1, ji_ x2, ji_ x3, ji_ x4, ji_ x5, ji_ x6, jr_ a7, ji_ t0, u9] [ji_ z] (N, K, M', g) Q) : j_J G jm_LP_clash (d + 1) B S 24 [jr_ a0, ji_ x1, ji_ x2, ji_ x3, ji_ x4, ji_ x5, ji_ x6, jr_ a7, u8, u9] [ji_ t0] (N, K, M, g) Q :=
  j_istore d_LP_clash_24 rfl rfl <| j_aload d_LP_clash_26 rfl <| j_iload_n d_LP_clash_28 rfl <| j_iload_n d_LP_clash_29 rfl <| j_aload_n d_LP_clash_30 rfl <| j_getR d_LP_clash_31 f_LP_15 hk1 hg2 <| j_iconst d_LP_clash_34 <| j_aald d_LP_clash_35 hk2 r3 r3' hg5 <| j_iload d_LP_clash_36 rfl <| j_iload d_LP_clash_38 rfl <| j_aVI (as := [ji_ x1, ji_ x2, jr_ y4, ji_ x5, ji_ x6]) (rest := []) d_LP_clash_40 c_LP_243 hk3 rfl (Nat.le_of_ble_eq_true rfl) hC k1
theorem s_LP_clash_43 {G : j_G} {d B S N : Nat} {K : Nat → Option (Nat × Nat)} {M : Nat → Int → Int} {g : Nat → Int → Option Nat} {Q : j_O → j_S → Prop} {a0 a7 : Nat} {x1 x2 x3 x4 x5 x6 x8 t0 : Int} {u9 : j_V} (r1 : -2147483648 ≤ x8 ∧ x8 ≤ 2147483647 := by omega) (k1 : x8 ≠ 0 → Q (.inl (some (ji_ 0))) (N, K, M, g)) (k2 : x8 = 0 → j_J G jm_LP_clash d B S 50 [jr_ a0, ji_ x1, ji_ x2, ji_ x3, ji_ x4, ji_ x5, ji_ x6, jr_ a7, ji_ x8, ji_ t0] [] (N, K, M, g) Q) : j_J G jm_LP_clash d B S 43 [jr_ a0, ji_ x1, ji_ x2, ji_ x3, ji_ x4, ji_ x5, ji_ x6, jr_ a7, ji_ x8, u9] [ji_ t0] (N, K, M, g) Q :=
  j_istore d_LP_clash_43 rfl rfl <| j_iload d_LP_clash_45 rfl <| j_if_ne d_LP_clash_47 r1 (fun h => j_iconst d_LP_clash_84 <| j_zreturn' d_LP_clash_85 rfl (Or.inl rfl) <| k1 h) k2
theorem s_LP_clash_50 {G : j_G} {d B S N : Nat} {K : Nat → Option (Nat × Nat)} {M : Nat → Int → Int} {g : Nat → Int → Option Nat} {Q : j_O → j_S → Prop} {a0 a7 : Nat} {x1 x2 x3 x4 x5 x6 x8 x9 : Int} (r1 : -2147483648 ≤ x9 ∧ x9 ≤ 2147483647 := by omega) (k1 : x9 ≠ 0 → Q (.inl (some (ji_ 0))) (N, K, M, g)) (k2 : x9 = 0 → j_J G jm_LP_clash d B S 55 [jr_ a0, ji_ x1, ji_ x2, ji_ x3, ji_ x4, ji_ x5, ji_ x6, jr_ a7, ji_ x8, ji_ x9] [] (N, K, M, g) Q) : j_J G jm_LP_clash d B S 50 [jr_ a0, ji_ x1, ji_ x2, ji_ x3, ji_ x4, ji_ x5, ji_ x6, jr_ a7, ji_ x8, ji_ x9] [] (N, K, M, g) Q :=
  j_iload d_LP_clash_50 rfl <| j_if_ne d_LP_clash_52 r1 (fun h => j_iconst d_LP_clash_84 <| j_zreturn' d_LP_clash_85 rfl (Or.inl rfl) <| k1 h) k2
theorem s_LP_clash_55 {G : j_G} {d B S N : Nat} {K : Nat → Option (Nat × Nat)} {M : Nat → Int → Int} {g : Nat → Int → Option Nat} {Q : j_O → j_S → Prop} {a0 a7 y1 n2 tg2 y4 n3 tg3 y7 : Nat} {x1 x2 x3 x4 x5 x6 x8 x9 : Int} {q : Int → (Nat → Int → Int) → Prop} (hk1 : K a0 = some (0, 0)) (hg2 : g a0 0 = some y1) (hk2 : K y1 = some (tg2 + 3, n2)) (r3 : 0 ≤ (1 : Int) := by omega) (r3' : (1 : Int) < (n2 : Int) := by omega) (hg5 : g y1 1 = some y4) (hk3 : K y1 = some (tg3 + 3, n3)) (r6 : 0 ≤ (2 : Int) := by omega) (r6' : (2 : Int) < (n3 : Int) := by omega) (hg8 : g y1 2 = some y7) (hk4 : K y4 = some (0, 1)) (hC : j_Ct G jm_Tx_same d 0 0 [jr_ y4, ji_ x3, ji_ x4, jr_ y7, ji_ x5, ji_ x6] (N, K, M, g) (j_pI N K g q)) (k1 : ∀ z M', q z M' → j_J G jm_LP_clash (d + 1) B S 77 [jr_ a0, ji_ x1, ji_ x2, ji_ x3, ji_ x4, ji_ x5, ji_ x6, jr_ a7, ji_ x8, ji_ x9] [ji_ z] (N, K, M', g) Q) : j_J G jm_LP_clash (d + 1) B S 55 [jr_ a0, ji_ x1, ji_ x2, ji_ x3, ji_ x4, ji_ x5, ji_ x6, jr_ a7, ji_ x8, ji_ x9] [] (N, K, M, g) Q :=
  j_aload_n d_LP_clash_55 rfl <| j_getR d_LP_clash_56 f_LP_15 hk1 hg2 <| j_iconst d_LP_clash_59 <| j_aald d_LP_clash_60 hk2 r3 r3' hg5 <| j_iload_n d_LP_clash_61 rfl <| j_iload d_LP_clash_62 rfl <| j_aload_n d_LP_clash_64 rfl <| j_getR d_LP_clash_65 f_LP_15 hk1 hg2 <| j_iconst d_LP_clash_68 <| j_aald d_LP_clash_69 hk3 r6 r6' hg8 <| j_iload d_LP_clash_70 rfl <| j_iload d_LP_clash_72 rfl <| j_aVI (as := [ji_ x3, ji_ x4, jr_ y7, ji_ x5, ji_ x6]) (rest := []) d_LP_clash_74 c_LP_243 hk4 rfl (Nat.le_of_ble_eq_true rfl) hC k1
theorem s_LP_clash_77 {G : j_G} {d B S N : Nat} {K : Nat → Option (Nat × Nat)} {M : Nat → Int → Int} {g : Nat → Int → Option Nat} {Q : j_O → j_S → Prop} {a0 a7 : Nat} {x1 x2 x3 x4 x5 x6 x8 x9 t0 : Int} (r1 : -2147483648 ≤ t0 ∧ t0 ≤ 2147483647 := by omega) (k1 : t0 ≠ 0 → Q (.inl (some (ji_ 0))) (N, K, M, g)) (k2 : t0 = 0 → Q (.inl (some (ji_ 1))) (N, K, M, g)) : j_J G jm_LP_clash d B S 77 [jr_ a0, ji_ x1, ji_ x2, ji_ x3, ji_ x4, ji_ x5, ji_ x6, jr_ a7, ji_ x8, ji_ x9] [ji_ t0] (N, K, M, g) Q :=
  j_if_ne d_LP_clash_77 r1 (fun h => j_iconst d_LP_clash_84 <| j_zreturn' d_LP_clash_85 rfl (Or.inl rfl) <| k1 h) (fun h => j_iconst d_LP_clash_80 <| j_goto d_LP_clash_81 <| j_zreturn' d_LP_clash_85 rfl (Or.inr rfl) <| k2 h)
theorem s_LP_clash_80 {G : j_G} {d B S N : Nat} {K : Nat → Option (Nat × Nat)} {M : Nat → Int → Int} {g : Nat → Int → Option Nat} {Q : j_O → j_S → Prop} {a0 a7 : Nat} {x1 x2 x3 x4 x5 x6 x8 x9 : Int}  (k1 : Q (.inl (some (ji_ 1))) (N, K, M, g)) : j_J G jm_LP_clash d B S 80 [jr_ a0, ji_ x1, ji_ x2, ji_ x3, ji_ x4, ji_ x5, ji_ x6, jr_ a7, ji_ x8, ji_ x9] [] (N, K, M, g) Q :=
  j_iconst d_LP_clash_80 <| j_goto d_LP_clash_81 (j_zreturn' d_LP_clash_85 rfl (Or.inr rfl) <| k1)
theorem s_LP_clash_84 {G : j_G} {d B S N : Nat} {K : Nat → Option (Nat × Nat)} {M : Nat → Int → Int} {g : Nat → Int → Option Nat} {Q : j_O → j_S → Prop} {a0 a7 : Nat} {x1 x2 x3 x4 x5 x6 x8 x9 : Int}  (k1 : Q (.inl (some (ji_ 0))) (N, K, M, g)) : j_J G jm_LP_clash d B S 84 [jr_ a0, ji_ x1, ji_ x2, ji_ x3, ji_ x4, ji_ x5, ji_ x6, jr_ a7, ji_ x8, ji_ x9] [] (N, K, M, g) Q :=
  j_iconst d_LP_clash_84 <| (j_zreturn' d_LP_clash_85 rfl (Or.inl rfl) <| k1)
theorem s_LP_clash_85 {G : j_G} {d B S N : Nat} {K : Nat → Option (Nat × Nat)} {M : Nat → Int → Int} {g : Nat → Int → Option Nat} {Q : j_O → j_S → Prop} {a0 a7 : Nat} {x1 x2 x3 x4 x5 x6 x8 x9 t0 : Int} (hz1 : t0 = 0 ∨ t0 = 1) (k1 : Q (.inl (some (ji_ t0))) (N, K, M, g)) : j_J G jm_LP_clash d B S 85 [jr_ a0, ji_ x1, ji_ x2, ji_ x3, ji_ x4, ji_ x5, ji_ x6, jr_ a7, ji_ x8, ji_ x9] [ji_ t0] (N, K, M, g) Q :=
  j_zreturn' d_LP_clash_85 rfl hz1 k1
theorem s_LP_putClash_0 {G : j_G} {d B S N : Nat} {K : Nat → Option (Nat × Nat)} {M : Nat → Int → Int} {g : Nat → Int → Option Nat} {Q : j_O → j_S → Prop} {a0 y1 : Nat} {x1 x2 x3 x4 : Int} {u5 : j_V} {q : Int → (Nat → Int → Int) → Prop} (hk1 : K a0 = some (0, 0)) (hg2 : g a0 6 = some y1) (hk2 : K y1 = some (0, 1)) (hC : j_Ct G jm_Tx_add d 0 0 [jr_ y1, ji_ 60] (N, K, M, g) (j_pI N K g q)) (k1 : ∀ z M', q z M' → j_J G jm_LP_putClash (d + 1) B S 9 [jr_ a0, ji_ x1, ji_ x2, ji_ x3, ji_ x4, u5] [ji_ z] (N, K, M', g) Q) : j_J G jm_LP_putClash (d + 1) B S 0 [jr_ a0, ji_ x1, ji_ x2, ji_ x3, ji_ x4, u5] [] (N, K, M, g) Q :=
  j_aload_n d_LP_putClash_0 rfl <| j_getR d_LP_putClash_1 f_LP_51 hk1 hg2 <| j_bipush d_LP_putClash_4 (by decide) <| j_aVI (as := [ji_ 60]) (rest := []) d_LP_putClash_6 c_LP_89 hk2 rfl (Nat.le_of_ble_eq_true rfl) hC k1
theorem s_LP_putClash_9 {G : j_G} {d B S N : Nat} {K : Nat → Option (Nat × Nat)} {M : Nat → Int → Int} {g : Nat → Int → Option Nat} {Q : j_O → j_S → Prop} {a0 : Nat} {x1 x2 x3 x4 t0 : Int} {u5 : j_V} (r1 : -2147483648 ≤ t0 ∧ t0 ≤ 2147483647 := by omega) (k1 : t0 = 0 → j_J G jm_LP_putClash d B S 47 [jr_ a0, ji_ x1, ji_ x2, ji_ x3, ji_ x4, u5] [ji_ 0] (N, K, M, g) Q) (k2 : t0 ≠ 0 → j_J G jm_LP_putClash d B S 12 [jr_ a0, ji_ x1, ji_ x2, ji_ x3, ji_ x4, u5] [] (N, K, M, g) Q) : j_J G jm_LP_putClash d B S 9 [jr_ a0, ji_ x1, ji_ x2, ji_ x3, ji_ x4, u5] [ji_ t0] (N, K, M, g) Q :=
  j_if_eq d_LP_putClash_9 r1 (fun h => j_iconst d_LP_putClash_46 <| k1 h) k2
theorem s_LP_putClash_12 {G : j_G} {d B S N : Nat} {K : Nat → Option (Nat × Nat)} {M : Nat → Int → Int} {g : Nat → Int → Option Nat} {Q : j_O → j_S → Prop} {a0 y1 y3 n2 tg2 y6 : Nat} {x1 x2 x3 x4 : Int} {u5 : j_V} {q : Int → (Nat → Int → Int) → Prop} (hk1 : K a0 = some (0, 0)) (hg2 : g a0 6 = some y1) (hg4 : g a0 0 = some y3) (hk2 : K y3 = some (tg2 + 3, n2)) (r5 : 0 ≤ (1 : Int) := by omega) (r5' : (1 : Int) < (n2 : Int) := by omega) (hg7 : g y3 1 = some y6) (hk3 : K y1 = some (0, 1)) (hC : j_Ct G jm_Tx_addAll d 0 0 [jr_ y1, jr_ y6, ji_ x1, ji_ x2] (N, K, M, g) (j_pI N K g q)) (k1 : ∀ z M', q z M' → j_J G jm_LP_putClash (d + 1) B S 27 [jr_ a0, ji_ x1, ji_ x2, ji_ x3, ji_ x4, u5] [ji_ z] (N, K, M', g) Q) : j_J G jm_LP_putClash (d + 1) B S 12 [jr_ a0, ji_ x1, ji_ x2, ji_ x3, ji_ x4, u5] [] (N, K, M, g) Q :=
  j_aload_n d_LP_putClash_12 rfl <| j_getR d_LP_putClash_13 f_LP_51 hk1 hg2 <| j_aload_n d_LP_putClash_16 rfl <| j_getR d_LP_putClash_17 f_LP_15 hk1 hg4 <| j_iconst d_LP_putClash_20 <| j_aald d_LP_putClash_21 hk2 r5 r5' hg7 <| j_iload_n d_LP_putClash_22 rfl <| j_iload_n d_LP_putClash_23 rfl <| j_aVI (as := [jr_ y6, ji_ x1, ji_ x2]) (rest := []) d_LP_putClash_24 c_LP_225 hk3 rfl (Nat.le_of_ble_eq_true rfl) hC k1
theorem s_LP_putClash_27 {G : j_G} {d B S N : Nat} {K : Nat → Option (Nat × Nat)} {M : Nat → Int → Int} {g : Nat → Int → Option Nat} {Q : j_O → j_S → Prop} {a0 : Nat} {x1 x2 x3 x4 t0 : Int} {u5 : j_V} (r1 : -2147483648 ≤ t0 ∧ t0 ≤ 2147483647 := by omega) (k1 : t0 = 0 → j_J G jm_LP_putClash d B S 47 [jr_ a0, ji_ x1, ji_ x2, ji_ x3, ji_ x4, u5] [ji_ 0] (N, K, M, g) Q) (k2 : t0 ≠ 0 → j_J G jm_LP_putClash d B S 30 [jr_ a0, ji_ x1, ji_ x2, ji_ x3, ji_ x4, u5] [] (N, K, M, g) Q) : j_J G jm_LP_putClash d B S 27 [jr_ a0, ji_ x1, ji_ x2, ji_ x3, ji_ x4, u5] [ji_ t0] (N, K, M, g) Q :=
  j_if_eq d_LP_putClash_27 r1 (fun h => j_iconst d_LP_putClash_46 <| k1 h) k2
theorem s_LP_putClash_30 {G : j_G} {d B S N : Nat} {K : Nat → Option (Nat × Nat)} {M : Nat → Int → Int} {g : Nat → Int → Option Nat} {Q : j_O → j_S → Prop} {a0 y1 : Nat} {x1 x2 x3 x4 : Int} {u5 : j_V} {q : Int → (Nat → Int → Int) → Prop} (hk1 : K a0 = some (0, 0)) (hg2 : g a0 6 = some y1) (hk2 : K y1 = some (0, 1)) (hC : j_Ct G jm_Tx_add d 0 0 [jr_ y1, ji_ 61] (N, K, M, g) (j_pI N K g q)) (k1 : ∀ z M', q z M' → j_J G jm_LP_putClash (d + 1) B S 39 [jr_ a0, ji_ x1, ji_ x2, ji_ x3, ji_ x4, u5] [ji_ z] (N, K, M', g) Q) : j_J G jm_LP_putClash (d + 1) B S 30 [jr_ a0, ji_ x1, ji_ x2, ji_ x3, ji_ x4, u5] [] (N, K, M, g) Q :=
  j_aload_n d_LP_putClash_30 rfl <| j_getR d_LP_putClash_31 f_LP_51 hk1 hg2 <| j_bipush d_LP_putClash_34 (by decide) <| j_aVI (as := [ji_ 61]) (rest := []) d_LP_putClash_36 c_LP_89 hk2 rfl (Nat.le_of_ble_eq_true rfl) hC k1
theorem s_LP_putClash_39 {G : j_G} {d B S N : Nat} {K : Nat → Option (Nat × Nat)} {M : Nat → Int → Int} {g : Nat → Int → Option Nat} {Q : j_O → j_S → Prop} {a0 : Nat} {x1 x2 x3 x4 t0 : Int} {u5 : j_V} (r1 : -2147483648 ≤ t0 ∧ t0 ≤ 2147483647 := by omega) (k1 : t0 = 0 → j_J G jm_LP_putClash d B S 47 [jr_ a0, ji_ x1, ji_ x2, ji_ x3, ji_ x4, u5] [ji_ 0] (N, K, M, g) Q) (k2 : t0 ≠ 0 → j_J G jm_LP_putClash d B S 47 [jr_ a0, ji_ x1, ji_ x2, ji_ x3, ji_ x4, u5] [ji_ 1] (N, K, M, g) Q) : j_J G jm_LP_putClash d B S 39 [jr_ a0, ji_ x1, ji_ x2, ji_ x3, ji_ x4, u5] [ji_ t0] (N, K, M, g) Q :=
  j_if_eq d_LP_putClash_39 r1 (fun h => j_iconst d_LP_putClash_46 <| k1 h) (fun h => j_iconst d_LP_putClash_42 <| j_goto d_LP_putClash_43 <| k2 h)
theorem s_LP_putClash_42 {G : j_G} {d B S N : Nat} {K : Nat → Option (Nat × Nat)} {M : Nat → Int → Int} {g : Nat → Int → Option Nat} {Q : j_O → j_S → Prop} {a0 : Nat} {x1 x2 x3 x4 : Int} {u5 : j_V}  (k1 : j_J G jm_LP_putClash d B S 47 [jr_ a0, ji_ x1, ji_ x2, ji_ x3, ji_ x4, u5] [ji_ 1] (N, K, M, g) Q) : j_J G jm_LP_putClash d B S 42 [jr_ a0, ji_ x1, ji_ x2, ji_ x3, ji_ x4, u5] [] (N, K, M, g) Q :=
  j_iconst d_LP_putClash_42 <| j_goto d_LP_putClash_43 k1
theorem s_LP_putClash_46 {G : j_G} {d B S N : Nat} {K : Nat → Option (Nat × Nat)} {M : Nat → Int → Int} {g : Nat → Int → Option Nat} {Q : j_O → j_S → Prop} {a0 : Nat} {x1 x2 x3 x4 : Int} {u5 : j_V}  (k1 : j_J G jm_LP_putClash d B S 47 [jr_ a0, ji_ x1, ji_ x2, ji_ x3, ji_ x4, u5] [ji_ 0] (N, K, M, g) Q) : j_J G jm_LP_putClash d B S 46 [jr_ a0, ji_ x1, ji_ x2, ji_ x3, ji_ x4, u5] [] (N, K, M, g) Q :=
  j_iconst d_LP_putClash_46 <| k1
theorem s_LP_putClash_47 {G : j_G} {d B S N : Nat} {K : Nat → Option (Nat × Nat)} {M : Nat → Int → Int} {g : Nat → Int → Option Nat} {Q : j_O → j_S → Prop} {a0 : Nat} {x1 x2 x3 x4 t0 : Int} {u5 : j_V} (r1 : -2147483648 ≤ t0 ∧ t0 ≤ 2147483647 := by omega) (k1 : t0 = 0 → Q (.inl (some (ji_ 0))) (N, K, M, g)) (k2 : t0 ≠ 0 → j_J G jm_LP_putClash d B S 54 [jr_ a0, ji_ x1, ji_ x2, ji_ x3, ji_ x4, ji_ t0] [] (N, K, M, g) Q) : j_J G jm_LP_putClash d B S 47 [jr_ a0, ji_ x1, ji_ x2, ji_ x3, ji_ x4, u5] [ji_ t0] (N, K, M, g) Q :=
  j_istore d_LP_putClash_47 rfl rfl <| j_iload d_LP_putClash_49 rfl <| j_if_eq d_LP_putClash_51 r1 (fun h => j_iconst d_LP_putClash_89 <| j_zreturn' d_LP_putClash_90 rfl (Or.inl rfl) <| k1 h) k2
theorem s_LP_putClash_54 {G : j_G} {d B S N : Nat} {K : Nat → Option (Nat × Nat)} {M : Nat → Int → Int} {g : Nat → Int → Option Nat} {Q : j_O → j_S → Prop} {a0 y1 y3 n2 tg2 y6 : Nat} {x1 x2 x3 x4 x5 : Int} {q : Int → (Nat → Int → Int) → Prop} (hk1 : K a0 = some (0, 0)) (hg2 : g a0 6 = some y1) (hg4 : g a0 0 = some y3) (hk2 : K y3 = some (tg2 + 3, n2)) (r5 : 0 ≤ (2 : Int) := by omega) (r5' : (2 : Int) < (n2 : Int) := by omega) (hg7 : g y3 2 = some y6) (hk3 : K y1 = some (0, 1)) (hC : j_Ct G jm_Tx_addAll d 0 0 [jr_ y1, jr_ y6, ji_ x3, ji_ x4] (N, K, M, g) (j_pI N K g q)) (k1 : ∀ z M', q z M' → j_J G jm_LP_putClash (d + 1) B S 70 [jr_ a0, ji_ x1, ji_ x2, ji_ x3, ji_ x4, ji_ x5] [ji_ z] (N, K, M', g) Q) : j_J G jm_LP_putClash (d + 1) B S 54 [jr_ a0, ji_ x1, ji_ x2, ji_ x3, ji_ x4, ji_ x5] [] (N, K, M, g) Q :=
  j_aload_n d_LP_putClash_54 rfl <| j_getR d_LP_putClash_55 f_LP_51 hk1 hg2 <| j_aload_n d_LP_putClash_58 rfl <| j_getR d_LP_putClash_59 f_LP_15 hk1 hg4 <| j_iconst d_LP_putClash_62 <| j_aald d_LP_putClash_63 hk2 r5 r5' hg7 <| j_iload_n d_LP_putClash_64 rfl <| j_iload d_LP_putClash_65 rfl <| j_aVI (as := [jr_ y6, ji_ x3, ji_ x4]) (rest := []) d_LP_putClash_67 c_LP_225 hk3 rfl (Nat.le_of_ble_eq_true rfl) hC k1
theorem s_LP_putClash_70 {G : j_G} {d B S N : Nat} {K : Nat → Option (Nat × Nat)} {M : Nat → Int → Int} {g : Nat → Int → Option Nat} {Q : j_O → j_S → Prop} {a0 : Nat} {x1 x2 x3 x4 x5 t0 : Int} (r1 : -2147483648 ≤ t0 ∧ t0 ≤ 2147483647 := by omega) (k1 : t0 = 0 → Q (.inl (some (ji_ 0))) (N, K, M, g)) (k2 : t0 ≠ 0 → j_J G jm_LP_putClash d B S 73 [jr_ a0, ji_ x1, ji_ x2, ji_ x3, ji_ x4, ji_ x5] [] (N, K, M, g) Q) : j_J G jm_LP_putClash d B S 70 [jr_ a0, ji_ x1, ji_ x2, ji_ x3, ji_ x4, ji_ x5] [ji_ t0] (N, K, M, g) Q :=
  j_if_eq d_LP_putClash_70 r1 (fun h => j_iconst d_LP_putClash_89 <| j_zreturn' d_LP_putClash_90 rfl (Or.inl rfl) <| k1 h) k2
theorem s_LP_putClash_73 {G : j_G} {d B S N : Nat} {K : Nat → Option (Nat × Nat)} {M : Nat → Int → Int} {g : Nat → Int → Option Nat} {Q : j_O → j_S → Prop} {a0 y1 : Nat} {x1 x2 x3 x4 x5 : Int} {q : Int → (Nat → Int → Int) → Prop} (hk1 : K a0 = some (0, 0)) (hg2 : g a0 6 = some y1) (hk2 : K y1 = some (0, 1)) (hC : j_Ct G jm_Tx_add d 0 0 [jr_ y1, ji_ 62] (N, K, M, g) (j_pI N K g q)) (k1 : ∀ z M', q z M' → j_J G jm_LP_putClash (d + 1) B S 82 [jr_ a0, ji_ x1, ji_ x2, ji_ x3, ji_ x4, ji_ x5] [ji_ z] (N, K, M', g) Q) : j_J G jm_LP_putClash (d + 1) B S 73 [jr_ a0, ji_ x1, ji_ x2, ji_ x3, ji_ x4, ji_ x5] [] (N, K, M, g) Q :=
  j_aload_n d_LP_putClash_73 rfl <| j_getR d_LP_putClash_74 f_LP_51 hk1 hg2 <| j_bipush d_LP_putClash_77 (by decide) <| j_aVI (as := [ji_ 62]) (rest := []) d_LP_putClash_79 c_LP_89 hk2 rfl (Nat.le_of_ble_eq_true rfl) hC k1
theorem s_LP_putClash_82 {G : j_G} {d B S N : Nat} {K : Nat → Option (Nat × Nat)} {M : Nat → Int → Int} {g : Nat → Int → Option Nat} {Q : j_O → j_S → Prop} {a0 : Nat} {x1 x2 x3 x4 x5 t0 : Int} (r1 : -2147483648 ≤ t0 ∧ t0 ≤ 2147483647 := by omega) (k1 : t0 = 0 → Q (.inl (some (ji_ 0))) (N, K, M, g)) (k2 : t0 ≠ 0 → Q (.inl (some (ji_ 1))) (N, K, M, g)) : j_J G jm_LP_putClash d B S 82 [jr_ a0, ji_ x1, ji_ x2, ji_ x3, ji_ x4, ji_ x5] [ji_ t0] (N, K, M, g) Q :=
  j_if_eq d_LP_putClash_82 r1 (fun h => j_iconst d_LP_putClash_89 <| j_zreturn' d_LP_putClash_90 rfl (Or.inl rfl) <| k1 h) (fun h => j_iconst d_LP_putClash_85 <| j_goto d_LP_putClash_86 <| j_zreturn' d_LP_putClash_90 rfl (Or.inr rfl) <| k2 h)
theorem s_LP_putClash_85 {G : j_G} {d B S N : Nat} {K : Nat → Option (Nat × Nat)} {M : Nat → Int → Int} {g : Nat → Int → Option Nat} {Q : j_O → j_S → Prop} {a0 : Nat} {x1 x2 x3 x4 x5 : Int}  (k1 : Q (.inl (some (ji_ 1))) (N, K, M, g)) : j_J G jm_LP_putClash d B S 85 [jr_ a0, ji_ x1, ji_ x2, ji_ x3, ji_ x4, ji_ x5] [] (N, K, M, g) Q :=
  j_iconst d_LP_putClash_85 <| j_goto d_LP_putClash_86 (j_zreturn' d_LP_putClash_90 rfl (Or.inr rfl) <| k1)
theorem s_LP_putClash_89 {G : j_G} {d B S N : Nat} {K : Nat → Option (Nat × Nat)} {M : Nat → Int → Int} {g : Nat → Int → Option Nat} {Q : j_O → j_S → Prop} {a0 : Nat} {x1 x2 x3 x4 x5 : Int}  (k1 : Q (.inl (some (ji_ 0))) (N, K, M, g)) : j_J G jm_LP_putClash d B S 89 [jr_ a0, ji_ x1, ji_ x2, ji_ x3, ji_ x4, ji_ x5] [] (N, K, M, g) Q :=
  j_iconst d_LP_putClash_89 <| (j_zreturn' d_LP_putClash_90 rfl (Or.inl rfl) <| k1)
theorem s_LP_putClash_90 {G : j_G} {d B S N : Nat} {K : Nat → Option (Nat × Nat)} {M : Nat → Int → Int} {g : Nat → Int → Option Nat} {Q : j_O → j_S → Prop} {a0 : Nat} {x1 x2 x3 x4 x5 t0 : Int} (hz1 : t0 = 0 ∨ t0 = 1) (k1 : Q (.inl (some (ji_ t0))) (N, K, M, g)) : j_J G jm_LP_putClash d B S 90 [jr_ a0, ji_ x1, ji_ x2, ji_ x3, ji_ x4, ji_ x5] [ji_ t0] (N, K, M, g) Q :=
  j_zreturn' d_LP_putClash_90 rfl hz1 k1
theorem s_LP_putPart_0 {G : j_G} {d B S N : Nat} {K : Nat → Option (Nat × Nat)} {M : Nat → Int → Int} {g : Nat → Int → Option Nat} {Q : j_O → j_S → Prop} {a0 y1 n2 tg2 y4 n3 tg3 y7 : Nat} {x1 x2 x3 x4 x5 x6 : Int} {q : Int → (Nat → Int → Int) → Prop} (hk1 : K a0 = some (0, 0)) (hg2 : g a0 0 = some y1) (hk2 : K y1 = some (tg2 + 3, n2)) (r3 : 0 ≤ (0 : Int) := by omega) (r3' : (0 : Int) < (n2 : Int) := by omega) (hg5 : g y1 0 = some y4) (hk3 : K y1 = some (tg3 + 3, n3)) (r6 : 0 ≤ (1 : Int) := by omega) (r6' : (1 : Int) < (n3 : Int) := by omega) (hg8 : g y1 1 = some y7) (hk4 : K y4 = some (0, 1)) (hC : j_Ct G jm_Tx_same d 0 0 [jr_ y4, ji_ x1, ji_ x2, jr_ y7, ji_ x3, ji_ x4] (N, K, M, g) (j_pI N K g q)) (k1 : ∀ z M', q z M' → j_J G jm_LP_putPart (d + 1) B S 20 [jr_ a0, ji_ x1, ji_ x2, ji_ x3, ji_ x4, ji_ x5, ji_ x6] [ji_ z] (N, K, M', g) Q) : j_J G jm_LP_putPart (d + 1) B S 0 [jr_ a0, ji_ x1, ji_ x2, ji_ x3, ji_ x4, ji_ x5, ji_ x6] [] (N, K, M, g) Q :=
  j_aload_n d_LP_putPart_0 rfl <| j_getR d_LP_putPart_1 f_LP_15 hk1 hg2 <| j_iconst d_LP_putPart_4 <| j_aald d_LP_putPart_5 hk2 r3 r3' hg5 <| j_iload_n d_LP_putPart_6 rfl <| j_iload_n d_LP_putPart_7 rfl <| j_aload_n d_LP_putPart_8 rfl <| j_getR d_LP_putPart_9 f_LP_15 hk1 hg2 <| j_iconst d_LP_putPart_12 <| j_aald d_LP_putPart_13 hk3 r6 r6' hg8 <| j_iload_n d_LP_putPart_14 rfl <| j_iload d_LP_putPart_15 rfl <| j_aVI (as := [ji_ x1, ji_ x2, jr_ y7, ji_ x3, ji_ x4]) (rest := []) d_LP_putPart_17 c_LP_243 hk4 rfl (Nat.le_of_ble_eq_true rfl) hC k1
theorem s_LP_putPart_20 {G : j_G} {d B S N : Nat} {K : Nat → Option (Nat × Nat)} {M : Nat → Int → Int} {g : Nat → Int → Option Nat} {Q : j_O → j_S → Prop} {a0 : Nat} {x1 x2 x3 x4 x5 x6 t0 : Int} (r1 : -2147483648 ≤ t0 ∧ t0 ≤ 2147483647 := by omega) (k1 : t0 = 0 → j_J G jm_LP_putPart d B S 43 [jr_ a0, ji_ x1, ji_ x2, ji_ x3, ji_ x4, ji_ x5, ji_ x6] [] (N, K, M, g) Q) (k2 : t0 ≠ 0 → j_J G jm_LP_putPart d B S 23 [jr_ a0, ji_ x1, ji_ x2, ji_ x3, ji_ x4, ji_ x5, ji_ x6] [] (N, K, M, g) Q) : j_J G jm_LP_putPart d B S 20 [jr_ a0, ji_ x1, ji_ x2, ji_ x3, ji_ x4, ji_ x5, ji_ x6] [ji_ t0] (N, K, M, g) Q :=
  j_if_eq d_LP_putPart_20 r1 k1 k2
theorem s_LP_putPart_23 {G : j_G} {d B S N : Nat} {K : Nat → Option (Nat × Nat)} {M : Nat → Int → Int} {g : Nat → Int → Option Nat} {Q : j_O → j_S → Prop} {a0 y1 y3 n2 tg2 y6 : Nat} {x1 x2 x3 x4 x5 x6 : Int} {q : Int → (Nat → Int → Int) → Prop} (hk1 : K a0 = some (0, 0)) (hg2 : g a0 6 = some y1) (hg4 : g a0 0 = some y3) (hk2 : K y3 = some (tg2 + 3, n2)) (r5 : 0 ≤ (2 : Int) := by omega) (r5' : (2 : Int) < (n2 : Int) := by omega) (hg7 : g y3 2 = some y6) (hk3 : K y1 = some (0, 1)) (hC : j_Ct G jm_Tx_addAll d 0 0 [jr_ y1, jr_ y6, ji_ x5, ji_ x6] (N, K, M, g) (j_pI N K g q)) (k1 : ∀ z M', q z M' → j_J G jm_LP_putPart (d + 1) B S 40 [jr_ a0, ji_ x1, ji_ x2, ji_ x3, ji_ x4, ji_ x5, ji_ x6] [ji_ z] (N, K, M', g) Q) : j_J G jm_LP_putPart (d + 1) B S 23 [jr_ a0, ji_ x1, ji_ x2, ji_ x3, ji_ x4, ji_ x5, ji_ x6] [] (N, K, M, g) Q :=
  j_aload_n d_LP_putPart_23 rfl <| j_getR d_LP_putPart_24 f_LP_51 hk1 hg2 <| j_aload_n d_LP_putPart_27 rfl <| j_getR d_LP_putPart_28 f_LP_15 hk1 hg4 <| j_iconst d_LP_putPart_31 <| j_aald d_LP_putPart_32 hk2 r5 r5' hg7 <| j_iload d_LP_putPart_33 rfl <| j_iload d_LP_putPart_35 rfl <| j_aVI (as := [jr_ y6, ji_ x5, ji_ x6]) (rest := []) d_LP_putPart_37 c_LP_225 hk3 rfl (Nat.le_of_ble_eq_true rfl) hC k1
theorem s_LP_putPart_40 {G : j_G} {d B S N : Nat} {K : Nat → Option (Nat × Nat)} {M : Nat → Int → Int} {g : Nat → Int → Option Nat} {Q : j_O → j_S → Prop} {a0 : Nat} {x1 x2 x3 x4 x5 x6 t0 : Int}  (k1 : j_J G jm_LP_putPart d B S 59 [jr_ a0, ji_ x1, ji_ x2, ji_ x3, ji_ x4, ji_ x5, ji_ x6] [ji_ t0] (N, K, M, g) Q) : j_J G jm_LP_putPart d B S 40 [jr_ a0, ji_ x1, ji_ x2, ji_ x3, ji_ x4, ji_ x5, ji_ x6] [ji_ t0] (N, K, M, g) Q :=
  j_goto d_LP_putPart_40 k1
theorem s_LP_putPart_43 {G : j_G} {d B S N : Nat} {K : Nat → Option (Nat × Nat)} {M : Nat → Int → Int} {g : Nat → Int → Option Nat} {Q : j_O → j_S → Prop} {a0 y1 y3 n2 tg2 y6 : Nat} {x1 x2 x3 x4 x5 x6 : Int} {q : Int → (Nat → Int → Int) → Prop} (hk1 : K a0 = some (0, 0)) (hg2 : g a0 6 = some y1) (hg4 : g a0 0 = some y3) (hk2 : K y3 = some (tg2 + 3, n2)) (r5 : 0 ≤ (1 : Int) := by omega) (r5' : (1 : Int) < (n2 : Int) := by omega) (hg7 : g y3 1 = some y6) (hk3 : K y1 = some (0, 1)) (hC : j_Ct G jm_Tx_addAll d 0 0 [jr_ y1, jr_ y6, ji_ x3, ji_ x4] (N, K, M, g) (j_pI N K g q)) (k1 : ∀ z M', q z M' → j_J G jm_LP_putPart (d + 1) B S 59 [jr_ a0, ji_ x1, ji_ x2, ji_ x3, ji_ x4, ji_ x5, ji_ x6] [ji_ z] (N, K, M', g) Q) : j_J G jm_LP_putPart (d + 1) B S 43 [jr_ a0, ji_ x1, ji_ x2, ji_ x3, ji_ x4, ji_ x5, ji_ x6] [] (N, K, M, g) Q :=
  j_aload_n d_LP_putPart_43 rfl <| j_getR d_LP_putPart_44 f_LP_51 hk1 hg2 <| j_aload_n d_LP_putPart_47 rfl <| j_getR d_LP_putPart_48 f_LP_15 hk1 hg4 <| j_iconst d_LP_putPart_51 <| j_aald d_LP_putPart_52 hk2 r5 r5' hg7 <| j_iload_n d_LP_putPart_53 rfl <| j_iload d_LP_putPart_54 rfl <| j_aVI (as := [jr_ y6, ji_ x3, ji_ x4]) (rest := []) d_LP_putPart_56 c_LP_225 hk3 rfl (Nat.le_of_ble_eq_true rfl) hC k1
theorem s_LP_putPart_59 {G : j_G} {d B S N : Nat} {K : Nat → Option (Nat × Nat)} {M : Nat → Int → Int} {g : Nat → Int → Option Nat} {Q : j_O → j_S → Prop} {a0 : Nat} {x1 x2 x3 x4 x5 x6 t0 : Int} (hz1 : t0 = 0 ∨ t0 = 1) (k1 : Q (.inl (some (ji_ t0))) (N, K, M, g)) : j_J G jm_LP_putPart d B S 59 [jr_ a0, ji_ x1, ji_ x2, ji_ x3, ji_ x4, ji_ x5, ji_ x6] [ji_ t0] (N, K, M, g) Q :=
  j_zreturn' d_LP_putPart_59 rfl hz1 k1
