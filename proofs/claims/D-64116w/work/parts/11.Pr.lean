/-! decode facts, pool facts and segments: Pr_begin, Pr_equal, Pr_changes, Re_cell, Re_get, Re_back, Re_fill, Re_reaches, Re_run (printed by gen/mk.py) -/
theorem d_Pr_begin_0 : j_D jm_Pr_begin 0 (.aload_n 0) 1 1 := ⟨by decide +kernel, rfl⟩
theorem d_Pr_begin_1 : j_D jm_Pr_begin 1 (.getfield 12) 3 4 := ⟨by decide +kernel, rfl⟩
theorem d_Pr_begin_4 : j_D jm_Pr_begin 4 (.aload_n 1) 1 5 := ⟨by decide +kernel, rfl⟩
theorem d_Pr_begin_5 : j_D jm_Pr_begin 5 (.invokevirtual 25) 3 8 := ⟨by decide +kernel, rfl⟩
theorem d_Pr_begin_8 : j_D jm_Pr_begin 8 (.aload_n 0) 1 9 := ⟨by decide +kernel, rfl⟩
theorem d_Pr_begin_9 : j_D jm_Pr_begin 9 (.getfield 18) 3 12 := ⟨by decide +kernel, rfl⟩
theorem d_Pr_begin_12 : j_D jm_Pr_begin 12 (.aload_n 2) 1 13 := ⟨by decide +kernel, rfl⟩
theorem d_Pr_begin_13 : j_D jm_Pr_begin 13 (.invokevirtual 25) 3 16 := ⟨by decide +kernel, rfl⟩
theorem d_Pr_begin_16 : j_D jm_Pr_begin 16 (.iconst 0) 1 17 := ⟨by decide +kernel, rfl⟩
theorem d_Pr_begin_17 : j_D jm_Pr_begin 17 (.istore_n 3) 1 18 := ⟨by decide +kernel, rfl⟩
theorem d_Pr_begin_18 : j_D jm_Pr_begin 18 (.iload_n 3) 1 19 := ⟨by decide +kernel, rfl⟩
theorem d_Pr_begin_19 : j_D jm_Pr_begin 19 (.bipush 24) 2 21 := ⟨by decide +kernel, rfl⟩
theorem d_Pr_begin_21 : j_E jm_Pr_begin 21 (.if_icmp .ge) 16 24 37 := ⟨by decide +kernel, rfl, by decide⟩
theorem d_Pr_begin_24 : j_D jm_Pr_begin 24 (.aload_n 0) 1 25 := ⟨by decide +kernel, rfl⟩
theorem d_Pr_begin_25 : j_D jm_Pr_begin 25 (.getfield 21) 3 28 := ⟨by decide +kernel, rfl⟩
theorem d_Pr_begin_28 : j_D jm_Pr_begin 28 (.iload_n 3) 1 29 := ⟨by decide +kernel, rfl⟩
theorem d_Pr_begin_29 : j_D jm_Pr_begin 29 (.iconst (-1)) 1 30 := ⟨by decide +kernel, rfl⟩
theorem d_Pr_begin_30 : j_D jm_Pr_begin 30 .bastore 1 31 := ⟨by decide +kernel, rfl⟩
theorem d_Pr_begin_31 : j_D jm_Pr_begin 31 (.iinc 3 1) 3 34 := ⟨by decide +kernel, rfl⟩
theorem d_Pr_begin_34 : j_E jm_Pr_begin 34 .goto (-16) 37 18 := ⟨by decide +kernel, rfl, by decide⟩
theorem d_Pr_begin_37 : j_D jm_Pr_begin 37 .return_ 1 38 := ⟨by decide +kernel, rfl⟩
theorem d_Pr_equal_0 : j_D jm_Pr_equal 0 (.aload_n 0) 1 1 := ⟨by decide +kernel, rfl⟩
theorem d_Pr_equal_1 : j_D jm_Pr_equal 1 (.getfield 12) 3 4 := ⟨by decide +kernel, rfl⟩
theorem d_Pr_equal_4 : j_D jm_Pr_equal 4 (.getfield 29) 3 7 := ⟨by decide +kernel, rfl⟩
theorem d_Pr_equal_7 : j_D jm_Pr_equal 7 (.iload_n 1) 1 8 := ⟨by decide +kernel, rfl⟩
theorem d_Pr_equal_8 : j_D jm_Pr_equal 8 .baload 1 9 := ⟨by decide +kernel, rfl⟩
theorem d_Pr_equal_9 : j_D jm_Pr_equal 9 (.aload_n 0) 1 10 := ⟨by decide +kernel, rfl⟩
theorem d_Pr_equal_10 : j_D jm_Pr_equal 10 (.getfield 18) 3 13 := ⟨by decide +kernel, rfl⟩
theorem d_Pr_equal_13 : j_D jm_Pr_equal 13 (.getfield 29) 3 16 := ⟨by decide +kernel, rfl⟩
theorem d_Pr_equal_16 : j_D jm_Pr_equal 16 (.iload_n 2) 1 17 := ⟨by decide +kernel, rfl⟩
theorem d_Pr_equal_17 : j_D jm_Pr_equal 17 .baload 1 18 := ⟨by decide +kernel, rfl⟩
theorem d_Pr_equal_18 : j_E jm_Pr_equal 18 (.if_icmp .ne) 7 21 25 := ⟨by decide +kernel, rfl, by decide⟩
theorem d_Pr_equal_21 : j_D jm_Pr_equal 21 (.iconst 1) 1 22 := ⟨by decide +kernel, rfl⟩
theorem d_Pr_equal_22 : j_E jm_Pr_equal 22 .goto 4 25 26 := ⟨by decide +kernel, rfl, by decide⟩
theorem d_Pr_equal_25 : j_D jm_Pr_equal 25 (.iconst 0) 1 26 := ⟨by decide +kernel, rfl⟩
theorem d_Pr_equal_26 : j_D jm_Pr_equal 26 .ireturn 1 27 := ⟨by decide +kernel, rfl⟩
theorem d_Pr_changes_0 : j_D jm_Pr_changes 0 (.aload_n 0) 1 1 := ⟨by decide +kernel, rfl⟩
theorem d_Pr_changes_1 : j_D jm_Pr_changes 1 (.getfield 12) 3 4 := ⟨by decide +kernel, rfl⟩
theorem d_Pr_changes_4 : j_D jm_Pr_changes 4 (.getfield 32) 3 7 := ⟨by decide +kernel, rfl⟩
theorem d_Pr_changes_7 : j_D jm_Pr_changes 7 (.aload_n 0) 1 8 := ⟨by decide +kernel, rfl⟩
theorem d_Pr_changes_8 : j_D jm_Pr_changes 8 (.getfield 18) 3 11 := ⟨by decide +kernel, rfl⟩
theorem d_Pr_changes_11 : j_D jm_Pr_changes 11 (.getfield 32) 3 14 := ⟨by decide +kernel, rfl⟩
theorem d_Pr_changes_14 : j_D jm_Pr_changes 14 .iadd 1 15 := ⟨by decide +kernel, rfl⟩
theorem d_Pr_changes_15 : j_D jm_Pr_changes 15 (.istore_n 1) 1 16 := ⟨by decide +kernel, rfl⟩
theorem d_Pr_changes_16 : j_D jm_Pr_changes 16 (.iconst 0) 1 17 := ⟨by decide +kernel, rfl⟩
theorem d_Pr_changes_17 : j_D jm_Pr_changes 17 (.istore_n 2) 1 18 := ⟨by decide +kernel, rfl⟩
theorem d_Pr_changes_18 : j_D jm_Pr_changes 18 (.iload_n 2) 1 19 := ⟨by decide +kernel, rfl⟩
theorem d_Pr_changes_19 : j_D jm_Pr_changes 19 (.aload_n 0) 1 20 := ⟨by decide +kernel, rfl⟩
theorem d_Pr_changes_20 : j_D jm_Pr_changes 20 (.getfield 12) 3 23 := ⟨by decide +kernel, rfl⟩
theorem d_Pr_changes_23 : j_D jm_Pr_changes 23 (.getfield 32) 3 26 := ⟨by decide +kernel, rfl⟩
theorem d_Pr_changes_26 : j_E jm_Pr_changes 26 (.if_icmp .ge) 26 29 52 := ⟨by decide +kernel, rfl, by decide⟩
theorem d_Pr_changes_29 : j_D jm_Pr_changes 29 (.iload_n 1) 1 30 := ⟨by decide +kernel, rfl⟩
theorem d_Pr_changes_30 : j_D jm_Pr_changes 30 (.aload_n 0) 1 31 := ⟨by decide +kernel, rfl⟩
theorem d_Pr_changes_31 : j_D jm_Pr_changes 31 (.getfield 21) 3 34 := ⟨by decide +kernel, rfl⟩
theorem d_Pr_changes_34 : j_D jm_Pr_changes 34 (.iload_n 2) 1 35 := ⟨by decide +kernel, rfl⟩
theorem d_Pr_changes_35 : j_D jm_Pr_changes 35 .baload 1 36 := ⟨by decide +kernel, rfl⟩
theorem d_Pr_changes_36 : j_E jm_Pr_changes 36 (.ifCond .lt) 7 39 43 := ⟨by decide +kernel, rfl, by decide⟩
theorem d_Pr_changes_39 : j_D jm_Pr_changes 39 (.iconst 2) 1 40 := ⟨by decide +kernel, rfl⟩
theorem d_Pr_changes_40 : j_E jm_Pr_changes 40 .goto 4 43 44 := ⟨by decide +kernel, rfl, by decide⟩
theorem d_Pr_changes_43 : j_D jm_Pr_changes 43 (.iconst 0) 1 44 := ⟨by decide +kernel, rfl⟩
theorem d_Pr_changes_44 : j_D jm_Pr_changes 44 .isub 1 45 := ⟨by decide +kernel, rfl⟩
theorem d_Pr_changes_45 : j_D jm_Pr_changes 45 (.istore_n 1) 1 46 := ⟨by decide +kernel, rfl⟩
theorem d_Pr_changes_46 : j_D jm_Pr_changes 46 (.iinc 2 1) 3 49 := ⟨by decide +kernel, rfl⟩
theorem d_Pr_changes_49 : j_E jm_Pr_changes 49 .goto (-31) 52 18 := ⟨by decide +kernel, rfl, by decide⟩
theorem d_Pr_changes_52 : j_D jm_Pr_changes 52 (.iload_n 1) 1 53 := ⟨by decide +kernel, rfl⟩
theorem d_Pr_changes_53 : j_D jm_Pr_changes 53 .ireturn 1 54 := ⟨by decide +kernel, rfl⟩
theorem d_Re_cell_0 : j_D jm_Re_cell 0 (.iload_n 0) 1 1 := ⟨by decide +kernel, rfl⟩
theorem d_Re_cell_1 : j_D jm_Re_cell 1 (.iload_n 0) 1 2 := ⟨by decide +kernel, rfl⟩
theorem d_Re_cell_2 : j_D jm_Re_cell 2 (.iconst 1) 1 3 := ⟨by decide +kernel, rfl⟩
theorem d_Re_cell_3 : j_D jm_Re_cell 3 .iadd 1 4 := ⟨by decide +kernel, rfl⟩
theorem d_Re_cell_4 : j_D jm_Re_cell 4 .imul 1 5 := ⟨by decide +kernel, rfl⟩
theorem d_Re_cell_5 : j_D jm_Re_cell 5 (.iconst 2) 1 6 := ⟨by decide +kernel, rfl⟩
theorem d_Re_cell_6 : j_D jm_Re_cell 6 .idiv 1 7 := ⟨by decide +kernel, rfl⟩
theorem d_Re_cell_7 : j_D jm_Re_cell 7 (.iload_n 1) 1 8 := ⟨by decide +kernel, rfl⟩
theorem d_Re_cell_8 : j_D jm_Re_cell 8 (.iload_n 0) 1 9 := ⟨by decide +kernel, rfl⟩
theorem d_Re_cell_9 : j_D jm_Re_cell 9 .iadd 1 10 := ⟨by decide +kernel, rfl⟩
theorem d_Re_cell_10 : j_D jm_Re_cell 10 (.iconst 2) 1 11 := ⟨by decide +kernel, rfl⟩
theorem d_Re_cell_11 : j_D jm_Re_cell 11 .idiv 1 12 := ⟨by decide +kernel, rfl⟩
theorem d_Re_cell_12 : j_D jm_Re_cell 12 .iadd 1 13 := ⟨by decide +kernel, rfl⟩
theorem d_Re_cell_13 : j_D jm_Re_cell 13 .ireturn 1 14 := ⟨by decide +kernel, rfl⟩
theorem d_Re_get_0 : j_D jm_Re_get 0 (.iload_n 1) 1 1 := ⟨by decide +kernel, rfl⟩
theorem d_Re_get_1 : j_E jm_Re_get 1 (.ifCond .lt) 22 4 23 := ⟨by decide +kernel, rfl, by decide⟩
theorem d_Re_get_4 : j_D jm_Re_get 4 (.iload_n 2) 1 5 := ⟨by decide +kernel, rfl⟩
theorem d_Re_get_5 : j_D jm_Re_get 5 (.iload_n 1) 1 6 := ⟨by decide +kernel, rfl⟩
theorem d_Re_get_6 : j_D jm_Re_get 6 .ineg 1 7 := ⟨by decide +kernel, rfl⟩
theorem d_Re_get_7 : j_E jm_Re_get 7 (.if_icmp .lt) 16 10 23 := ⟨by decide +kernel, rfl, by decide⟩
theorem d_Re_get_10 : j_D jm_Re_get 10 (.iload_n 2) 1 11 := ⟨by decide +kernel, rfl⟩
theorem d_Re_get_11 : j_D jm_Re_get 11 (.iload_n 1) 1 12 := ⟨by decide +kernel, rfl⟩
theorem d_Re_get_12 : j_E jm_Re_get 12 (.if_icmp .gt) 11 15 23 := ⟨by decide +kernel, rfl, by decide⟩
theorem d_Re_get_15 : j_D jm_Re_get 15 (.iload_n 2) 1 16 := ⟨by decide +kernel, rfl⟩
theorem d_Re_get_16 : j_D jm_Re_get 16 (.iload_n 1) 1 17 := ⟨by decide +kernel, rfl⟩
theorem d_Re_get_17 : j_D jm_Re_get 17 .iadd 1 18 := ⟨by decide +kernel, rfl⟩
theorem d_Re_get_18 : j_D jm_Re_get 18 (.iconst 2) 1 19 := ⟨by decide +kernel, rfl⟩
theorem d_Re_get_19 : j_D jm_Re_get 19 .irem 1 20 := ⟨by decide +kernel, rfl⟩
theorem d_Re_get_20 : j_E jm_Re_get 20 (.ifCond .eq) 8 23 28 := ⟨by decide +kernel, rfl, by decide⟩
theorem d_Re_get_23 : j_D jm_Re_get 23 (.bipush 99) 2 25 := ⟨by decide +kernel, rfl⟩
theorem d_Re_get_25 : j_E jm_Re_get 25 .goto 13 28 38 := ⟨by decide +kernel, rfl, by decide⟩
theorem d_Re_get_28 : j_D jm_Re_get 28 (.aload_n 0) 1 29 := ⟨by decide +kernel, rfl⟩
theorem d_Re_get_29 : j_D jm_Re_get 29 (.getfield 9) 3 32 := ⟨by decide +kernel, rfl⟩
theorem d_Re_get_32 : j_D jm_Re_get 32 (.iload_n 1) 1 33 := ⟨by decide +kernel, rfl⟩
theorem d_Re_get_33 : j_D jm_Re_get 33 (.iload_n 2) 1 34 := ⟨by decide +kernel, rfl⟩
theorem d_Re_get_34 : j_D jm_Re_get 34 (.invokestatic 15) 3 37 := ⟨by decide +kernel, rfl⟩
theorem d_Re_get_37 : j_D jm_Re_get 37 .baload 1 38 := ⟨by decide +kernel, rfl⟩
theorem d_Re_get_38 : j_D jm_Re_get 38 .ireturn 1 39 := ⟨by decide +kernel, rfl⟩
theorem d_Re_back_0 : j_D jm_Re_back 0 (.iload_n 3) 1 1 := ⟨by decide +kernel, rfl⟩
theorem d_Re_back_1 : j_D jm_Re_back 1 (.iload 4) 2 3 := ⟨by decide +kernel, rfl⟩
theorem d_Re_back_3 : j_D jm_Re_back 3 .isub 1 4 := ⟨by decide +kernel, rfl⟩
theorem d_Re_back_4 : j_D jm_Re_back 4 (.iload_n 2) 1 5 := ⟨by decide +kernel, rfl⟩
theorem d_Re_back_5 : j_D jm_Re_back 5 .iadd 1 6 := ⟨by decide +kernel, rfl⟩
theorem d_Re_back_6 : j_D jm_Re_back 6 (.istore 5) 2 8 := ⟨by decide +kernel, rfl⟩
theorem d_Re_back_8 : j_D jm_Re_back 8 (.aload_n 0) 1 9 := ⟨by decide +kernel, rfl⟩
theorem d_Re_back_9 : j_D jm_Re_back 9 (.iload_n 1) 1 10 := ⟨by decide +kernel, rfl⟩
theorem d_Re_back_10 : j_D jm_Re_back 10 (.iload_n 2) 1 11 := ⟨by decide +kernel, rfl⟩
theorem d_Re_back_11 : j_D jm_Re_back 11 (.iconst 1) 1 12 := ⟨by decide +kernel, rfl⟩
theorem d_Re_back_12 : j_D jm_Re_back 12 .iadd 1 13 := ⟨by decide +kernel, rfl⟩
theorem d_Re_back_13 : j_D jm_Re_back 13 (.invokevirtual 19) 3 16 := ⟨by decide +kernel, rfl⟩
theorem d_Re_back_16 : j_D jm_Re_back 16 (.istore 6) 2 18 := ⟨by decide +kernel, rfl⟩
theorem d_Re_back_18 : j_D jm_Re_back 18 (.aload_n 0) 1 19 := ⟨by decide +kernel, rfl⟩
theorem d_Re_back_19 : j_D jm_Re_back 19 (.iload_n 1) 1 20 := ⟨by decide +kernel, rfl⟩
theorem d_Re_back_20 : j_D jm_Re_back 20 (.iload_n 2) 1 21 := ⟨by decide +kernel, rfl⟩
theorem d_Re_back_21 : j_D jm_Re_back 21 (.iconst 1) 1 22 := ⟨by decide +kernel, rfl⟩
theorem d_Re_back_22 : j_D jm_Re_back 22 .isub 1 23 := ⟨by decide +kernel, rfl⟩
theorem d_Re_back_23 : j_D jm_Re_back 23 (.invokevirtual 19) 3 26 := ⟨by decide +kernel, rfl⟩
theorem d_Re_back_26 : j_D jm_Re_back 26 (.istore 7) 2 28 := ⟨by decide +kernel, rfl⟩
theorem d_Re_back_28 : j_D jm_Re_back 28 (.iload 6) 2 30 := ⟨by decide +kernel, rfl⟩
theorem d_Re_back_30 : j_D jm_Re_back 30 (.bipush 99) 2 32 := ⟨by decide +kernel, rfl⟩
theorem d_Re_back_32 : j_E jm_Re_back 32 (.if_icmp .ne) 8 35 40 := ⟨by decide +kernel, rfl, by decide⟩
theorem d_Re_back_35 : j_D jm_Re_back 35 (.bipush 99) 2 37 := ⟨by decide +kernel, rfl⟩
theorem d_Re_back_37 : j_E jm_Re_back 37 .goto 11 40 48 := ⟨by decide +kernel, rfl, by decide⟩
theorem d_Re_back_40 : j_D jm_Re_back 40 (.iload 6) 2 42 := ⟨by decide +kernel, rfl⟩
theorem d_Re_back_42 : j_D jm_Re_back 42 (.iconst 1) 1 43 := ⟨by decide +kernel, rfl⟩
theorem d_Re_back_43 : j_D jm_Re_back 43 .isub 1 44 := ⟨by decide +kernel, rfl⟩
theorem d_Re_back_44 : j_D jm_Re_back 44 (.iconst 0) 1 45 := ⟨by decide +kernel, rfl⟩
theorem d_Re_back_45 : j_D jm_Re_back 45 (.invokestatic 22) 3 48 := ⟨by decide +kernel, rfl⟩
theorem d_Re_back_48 : j_D jm_Re_back 48 (.istore 6) 2 50 := ⟨by decide +kernel, rfl⟩
theorem d_Re_back_50 : j_D jm_Re_back 50 (.iload 7) 2 52 := ⟨by decide +kernel, rfl⟩
theorem d_Re_back_52 : j_D jm_Re_back 52 (.bipush 99) 2 54 := ⟨by decide +kernel, rfl⟩
theorem d_Re_back_54 : j_E jm_Re_back 54 (.if_icmp .ne) 8 57 62 := ⟨by decide +kernel, rfl, by decide⟩
theorem d_Re_back_57 : j_D jm_Re_back 57 (.bipush 99) 2 59 := ⟨by decide +kernel, rfl⟩
theorem d_Re_back_59 : j_E jm_Re_back 59 .goto 14 62 73 := ⟨by decide +kernel, rfl, by decide⟩
theorem d_Re_back_62 : j_D jm_Re_back 62 (.iload 7) 2 64 := ⟨by decide +kernel, rfl⟩
theorem d_Re_back_64 : j_D jm_Re_back 64 (.iload 5) 2 66 := ⟨by decide +kernel, rfl⟩
theorem d_Re_back_66 : j_D jm_Re_back 66 (.iconst 0) 1 67 := ⟨by decide +kernel, rfl⟩
theorem d_Re_back_67 : j_D jm_Re_back 67 (.invokestatic 22) 3 70 := ⟨by decide +kernel, rfl⟩
theorem d_Re_back_70 : j_D jm_Re_back 70 (.invokestatic 22) 3 73 := ⟨by decide +kernel, rfl⟩
theorem d_Re_back_73 : j_D jm_Re_back 73 (.istore 7) 2 75 := ⟨by decide +kernel, rfl⟩
theorem d_Re_back_75 : j_D jm_Re_back 75 (.iload 6) 2 77 := ⟨by decide +kernel, rfl⟩
theorem d_Re_back_77 : j_D jm_Re_back 77 (.bipush 99) 2 79 := ⟨by decide +kernel, rfl⟩
theorem d_Re_back_79 : j_E jm_Re_back 79 (.if_icmp .eq) 11 82 90 := ⟨by decide +kernel, rfl, by decide⟩
theorem d_Re_back_82 : j_D jm_Re_back 82 (.iload 6) 2 84 := ⟨by decide +kernel, rfl⟩
theorem d_Re_back_84 : j_D jm_Re_back 84 (.iconst 1) 1 85 := ⟨by decide +kernel, rfl⟩
theorem d_Re_back_85 : j_D jm_Re_back 85 .iadd 1 86 := ⟨by decide +kernel, rfl⟩
theorem d_Re_back_86 : j_D jm_Re_back 86 (.iload_n 3) 1 87 := ⟨by decide +kernel, rfl⟩
theorem d_Re_back_87 : j_E jm_Re_back 87 (.if_icmp .le) 8 90 95 := ⟨by decide +kernel, rfl, by decide⟩
theorem d_Re_back_90 : j_D jm_Re_back 90 (.bipush 99) 2 92 := ⟨by decide +kernel, rfl⟩
theorem d_Re_back_92 : j_E jm_Re_back 92 .goto 5 95 97 := ⟨by decide +kernel, rfl, by decide⟩
theorem d_Re_back_95 : j_D jm_Re_back 95 (.iload 6) 2 97 := ⟨by decide +kernel, rfl⟩
theorem d_Re_back_97 : j_D jm_Re_back 97 (.istore 6) 2 99 := ⟨by decide +kernel, rfl⟩
theorem d_Re_back_99 : j_D jm_Re_back 99 (.iload 7) 2 101 := ⟨by decide +kernel, rfl⟩
theorem d_Re_back_101 : j_D jm_Re_back 101 (.bipush 99) 2 103 := ⟨by decide +kernel, rfl⟩
theorem d_Re_back_103 : j_E jm_Re_back 103 (.if_icmp .eq) 15 106 118 := ⟨by decide +kernel, rfl, by decide⟩
theorem d_Re_back_106 : j_D jm_Re_back 106 (.iload 7) 2 108 := ⟨by decide +kernel, rfl⟩
theorem d_Re_back_108 : j_D jm_Re_back 108 (.iload 5) 2 110 := ⟨by decide +kernel, rfl⟩
theorem d_Re_back_110 : j_D jm_Re_back 110 .isub 1 111 := ⟨by decide +kernel, rfl⟩
theorem d_Re_back_111 : j_D jm_Re_back 111 (.iconst 1) 1 112 := ⟨by decide +kernel, rfl⟩
theorem d_Re_back_112 : j_D jm_Re_back 112 .iadd 1 113 := ⟨by decide +kernel, rfl⟩
theorem d_Re_back_113 : j_D jm_Re_back 113 (.iload 4) 2 115 := ⟨by decide +kernel, rfl⟩
theorem d_Re_back_115 : j_E jm_Re_back 115 (.if_icmp .le) 8 118 123 := ⟨by decide +kernel, rfl, by decide⟩
theorem d_Re_back_118 : j_D jm_Re_back 118 (.bipush 99) 2 120 := ⟨by decide +kernel, rfl⟩
theorem d_Re_back_120 : j_E jm_Re_back 120 .goto 5 123 125 := ⟨by decide +kernel, rfl, by decide⟩
theorem d_Re_back_123 : j_D jm_Re_back 123 (.iload 7) 2 125 := ⟨by decide +kernel, rfl⟩
theorem d_Re_back_125 : j_D jm_Re_back 125 (.istore 7) 2 127 := ⟨by decide +kernel, rfl⟩
theorem d_Re_back_127 : j_D jm_Re_back 127 (.iload 6) 2 129 := ⟨by decide +kernel, rfl⟩
theorem d_Re_back_129 : j_D jm_Re_back 129 (.iload 7) 2 131 := ⟨by decide +kernel, rfl⟩
theorem d_Re_back_131 : j_D jm_Re_back 131 (.invokestatic 27) 3 134 := ⟨by decide +kernel, rfl⟩
theorem d_Re_back_134 : j_D jm_Re_back 134 .ireturn 1 135 := ⟨by decide +kernel, rfl⟩
theorem d_Re_fill_0 : j_D jm_Re_fill 0 (.iconst 0) 1 1 := ⟨by decide +kernel, rfl⟩
theorem d_Re_fill_1 : j_D jm_Re_fill 1 (.istore 6) 2 3 := ⟨by decide +kernel, rfl⟩
theorem d_Re_fill_3 : j_D jm_Re_fill 3 (.iconst 0) 1 4 := ⟨by decide +kernel, rfl⟩
theorem d_Re_fill_4 : j_D jm_Re_fill 4 (.istore 7) 2 6 := ⟨by decide +kernel, rfl⟩
theorem d_Re_fill_6 : j_D jm_Re_fill 6 (.iload 7) 2 8 := ⟨by decide +kernel, rfl⟩
theorem d_Re_fill_8 : j_E jm_Re_fill 8 (.ifCond .ne) 144 11 152 := ⟨by decide +kernel, rfl, by decide⟩
theorem d_Re_fill_11 : j_D jm_Re_fill 11 (.iload 6) 2 13 := ⟨by decide +kernel, rfl⟩
theorem d_Re_fill_13 : j_D jm_Re_fill 13 .ineg 1 14 := ⟨by decide +kernel, rfl⟩
theorem d_Re_fill_14 : j_D jm_Re_fill 14 (.istore 8) 2 16 := ⟨by decide +kernel, rfl⟩
theorem d_Re_fill_16 : j_D jm_Re_fill 16 (.iload 8) 2 18 := ⟨by decide +kernel, rfl⟩
theorem d_Re_fill_18 : j_D jm_Re_fill 18 (.iload 6) 2 20 := ⟨by decide +kernel, rfl⟩
theorem d_Re_fill_20 : j_E jm_Re_fill 20 (.if_icmp .gt) 126 23 146 := ⟨by decide +kernel, rfl, by decide⟩
theorem d_Re_fill_23 : j_D jm_Re_fill 23 (.iload_n 3) 1 24 := ⟨by decide +kernel, rfl⟩
theorem d_Re_fill_24 : j_D jm_Re_fill 24 (.iload 5) 2 26 := ⟨by decide +kernel, rfl⟩
theorem d_Re_fill_26 : j_D jm_Re_fill 26 .isub 1 27 := ⟨by decide +kernel, rfl⟩
theorem d_Re_fill_27 : j_D jm_Re_fill 27 (.iload 8) 2 29 := ⟨by decide +kernel, rfl⟩
theorem d_Re_fill_29 : j_D jm_Re_fill 29 .iadd 1 30 := ⟨by decide +kernel, rfl⟩
theorem d_Re_fill_30 : j_D jm_Re_fill 30 (.istore 9) 2 32 := ⟨by decide +kernel, rfl⟩
theorem d_Re_fill_32 : j_D jm_Re_fill 32 (.iload 6) 2 34 := ⟨by decide +kernel, rfl⟩
theorem d_Re_fill_34 : j_E jm_Re_fill 34 (.ifCond .ne) 7 37 41 := ⟨by decide +kernel, rfl, by decide⟩
theorem d_Re_fill_37 : j_D jm_Re_fill 37 (.iload_n 3) 1 38 := ⟨by decide +kernel, rfl⟩
theorem d_Re_fill_38 : j_E jm_Re_fill 38 .goto 16 41 54 := ⟨by decide +kernel, rfl, by decide⟩
theorem d_Re_fill_41 : j_D jm_Re_fill 41 (.aload_n 0) 1 42 := ⟨by decide +kernel, rfl⟩
theorem d_Re_fill_42 : j_D jm_Re_fill 42 (.iload 6) 2 44 := ⟨by decide +kernel, rfl⟩
theorem d_Re_fill_44 : j_D jm_Re_fill 44 (.iconst 1) 1 45 := ⟨by decide +kernel, rfl⟩
theorem d_Re_fill_45 : j_D jm_Re_fill 45 .isub 1 46 := ⟨by decide +kernel, rfl⟩
theorem d_Re_fill_46 : j_D jm_Re_fill 46 (.iload 8) 2 48 := ⟨by decide +kernel, rfl⟩
theorem d_Re_fill_48 : j_D jm_Re_fill 48 (.iload_n 3) 1 49 := ⟨by decide +kernel, rfl⟩
theorem d_Re_fill_49 : j_D jm_Re_fill 49 (.iload 5) 2 51 := ⟨by decide +kernel, rfl⟩
theorem d_Re_fill_51 : j_D jm_Re_fill 51 (.invokevirtual 30) 3 54 := ⟨by decide +kernel, rfl⟩
theorem d_Re_fill_54 : j_D jm_Re_fill 54 (.istore 10) 2 56 := ⟨by decide +kernel, rfl⟩
theorem d_Re_fill_56 : j_D jm_Re_fill 56 (.iload 10) 2 58 := ⟨by decide +kernel, rfl⟩
theorem d_Re_fill_58 : j_D jm_Re_fill 58 (.bipush 99) 2 60 := ⟨by decide +kernel, rfl⟩
theorem d_Re_fill_60 : j_E jm_Re_fill 60 (.if_icmp .eq) 45 63 105 := ⟨by decide +kernel, rfl, by decide⟩
theorem d_Re_fill_63 : j_D jm_Re_fill 63 (.iload 10) 2 65 := ⟨by decide +kernel, rfl⟩
theorem d_Re_fill_65 : j_E jm_Re_fill 65 (.ifCond .le) 40 68 105 := ⟨by decide +kernel, rfl, by decide⟩
theorem d_Re_fill_68 : j_D jm_Re_fill 68 (.iload 10) 2 70 := ⟨by decide +kernel, rfl⟩
theorem d_Re_fill_70 : j_D jm_Re_fill 70 (.iload 9) 2 72 := ⟨by decide +kernel, rfl⟩
theorem d_Re_fill_72 : j_D jm_Re_fill 72 .isub 1 73 := ⟨by decide +kernel, rfl⟩
theorem d_Re_fill_73 : j_E jm_Re_fill 73 (.ifCond .le) 32 76 105 := ⟨by decide +kernel, rfl, by decide⟩
theorem d_Re_fill_76 : j_D jm_Re_fill 76 (.aload_n 1) 1 77 := ⟨by decide +kernel, rfl⟩
theorem d_Re_fill_77 : j_D jm_Re_fill 77 (.iload_n 2) 1 78 := ⟨by decide +kernel, rfl⟩
theorem d_Re_fill_78 : j_D jm_Re_fill 78 (.iload 10) 2 80 := ⟨by decide +kernel, rfl⟩
theorem d_Re_fill_80 : j_D jm_Re_fill 80 .iadd 1 81 := ⟨by decide +kernel, rfl⟩
theorem d_Re_fill_81 : j_D jm_Re_fill 81 (.iconst 1) 1 82 := ⟨by decide +kernel, rfl⟩
theorem d_Re_fill_82 : j_D jm_Re_fill 82 .isub 1 83 := ⟨by decide +kernel, rfl⟩
theorem d_Re_fill_83 : j_D jm_Re_fill 83 (.iload 4) 2 85 := ⟨by decide +kernel, rfl⟩
theorem d_Re_fill_85 : j_D jm_Re_fill 85 (.iload 10) 2 87 := ⟨by decide +kernel, rfl⟩
theorem d_Re_fill_87 : j_D jm_Re_fill 87 .iadd 1 88 := ⟨by decide +kernel, rfl⟩
theorem d_Re_fill_88 : j_D jm_Re_fill 88 (.iload 9) 2 90 := ⟨by decide +kernel, rfl⟩
theorem d_Re_fill_90 : j_D jm_Re_fill 90 .isub 1 91 := ⟨by decide +kernel, rfl⟩
theorem d_Re_fill_91 : j_D jm_Re_fill 91 (.iconst 1) 1 92 := ⟨by decide +kernel, rfl⟩
theorem d_Re_fill_92 : j_D jm_Re_fill 92 .isub 1 93 := ⟨by decide +kernel, rfl⟩
theorem d_Re_fill_93 : j_D jm_Re_fill 93 (.invokevirtual 34) 3 96 := ⟨by decide +kernel, rfl⟩
theorem d_Re_fill_96 : j_E jm_Re_fill 96 (.ifCond .eq) 9 99 105 := ⟨by decide +kernel, rfl, by decide⟩
theorem d_Re_fill_99 : j_D jm_Re_fill 99 (.iinc 10 (-1)) 3 102 := ⟨by decide +kernel, rfl⟩
theorem d_Re_fill_102 : j_E jm_Re_fill 102 .goto (-46) 105 56 := ⟨by decide +kernel, rfl, by decide⟩
theorem d_Re_fill_105 : j_D jm_Re_fill 105 (.aload_n 0) 1 106 := ⟨by decide +kernel, rfl⟩
theorem d_Re_fill_106 : j_D jm_Re_fill 106 (.getfield 9) 3 109 := ⟨by decide +kernel, rfl⟩
theorem d_Re_fill_109 : j_D jm_Re_fill 109 (.iload 6) 2 111 := ⟨by decide +kernel, rfl⟩
theorem d_Re_fill_111 : j_D jm_Re_fill 111 (.iload 8) 2 113 := ⟨by decide +kernel, rfl⟩
theorem d_Re_fill_113 : j_D jm_Re_fill 113 (.invokestatic 15) 3 116 := ⟨by decide +kernel, rfl⟩
theorem d_Re_fill_116 : j_D jm_Re_fill 116 (.iload 10) 2 118 := ⟨by decide +kernel, rfl⟩
theorem d_Re_fill_118 : j_D jm_Re_fill 118 .i2b 1 119 := ⟨by decide +kernel, rfl⟩
theorem d_Re_fill_119 : j_D jm_Re_fill 119 .bastore 1 120 := ⟨by decide +kernel, rfl⟩
theorem d_Re_fill_120 : j_D jm_Re_fill 120 (.iload 7) 2 122 := ⟨by decide +kernel, rfl⟩
theorem d_Re_fill_122 : j_D jm_Re_fill 122 (.iload 9) 2 124 := ⟨by decide +kernel, rfl⟩
theorem d_Re_fill_124 : j_E jm_Re_fill 124 (.ifCond .ne) 12 127 136 := ⟨by decide +kernel, rfl, by decide⟩
theorem d_Re_fill_127 : j_D jm_Re_fill 127 (.iload 10) 2 129 := ⟨by decide +kernel, rfl⟩
theorem d_Re_fill_129 : j_E jm_Re_fill 129 (.ifCond .ne) 7 132 136 := ⟨by decide +kernel, rfl, by decide⟩
theorem d_Re_fill_132 : j_D jm_Re_fill 132 (.iconst 1) 1 133 := ⟨by decide +kernel, rfl⟩
theorem d_Re_fill_133 : j_E jm_Re_fill 133 .goto 4 136 137 := ⟨by decide +kernel, rfl, by decide⟩
theorem d_Re_fill_136 : j_D jm_Re_fill 136 (.iconst 0) 1 137 := ⟨by decide +kernel, rfl⟩
theorem d_Re_fill_137 : j_D jm_Re_fill 137 .ior 1 138 := ⟨by decide +kernel, rfl⟩
theorem d_Re_fill_138 : j_D jm_Re_fill 138 (.istore 7) 2 140 := ⟨by decide +kernel, rfl⟩
theorem d_Re_fill_140 : j_D jm_Re_fill 140 (.iinc 8 2) 3 143 := ⟨by decide +kernel, rfl⟩
theorem d_Re_fill_143 : j_E jm_Re_fill 143 .goto (-127) 146 16 := ⟨by decide +kernel, rfl, by decide⟩
theorem d_Re_fill_146 : j_D jm_Re_fill 146 (.iinc 6 1) 3 149 := ⟨by decide +kernel, rfl⟩
theorem d_Re_fill_149 : j_E jm_Re_fill 149 .goto (-143) 152 6 := ⟨by decide +kernel, rfl, by decide⟩
theorem d_Re_fill_152 : j_D jm_Re_fill 152 .return_ 1 153 := ⟨by decide +kernel, rfl⟩
theorem d_Re_reaches_0 : j_D jm_Re_reaches 0 (.aload_n 0) 1 1 := ⟨by decide +kernel, rfl⟩
theorem d_Re_reaches_1 : j_D jm_Re_reaches 1 (.iload_n 1) 1 2 := ⟨by decide +kernel, rfl⟩
theorem d_Re_reaches_2 : j_D jm_Re_reaches 2 (.iload_n 2) 1 3 := ⟨by decide +kernel, rfl⟩
theorem d_Re_reaches_3 : j_D jm_Re_reaches 3 (.iload_n 3) 1 4 := ⟨by decide +kernel, rfl⟩
theorem d_Re_reaches_4 : j_D jm_Re_reaches 4 .isub 1 5 := ⟨by decide +kernel, rfl⟩
theorem d_Re_reaches_5 : j_D jm_Re_reaches 5 (.iload 4) 2 7 := ⟨by decide +kernel, rfl⟩
theorem d_Re_reaches_7 : j_D jm_Re_reaches 7 .isub 1 8 := ⟨by decide +kernel, rfl⟩
theorem d_Re_reaches_8 : j_D jm_Re_reaches 8 (.iload 5) 2 10 := ⟨by decide +kernel, rfl⟩
theorem d_Re_reaches_10 : j_D jm_Re_reaches 10 .iadd 1 11 := ⟨by decide +kernel, rfl⟩
theorem d_Re_reaches_11 : j_D jm_Re_reaches 11 (.invokevirtual 19) 3 14 := ⟨by decide +kernel, rfl⟩
theorem d_Re_reaches_14 : j_D jm_Re_reaches 14 (.iload_n 2) 1 15 := ⟨by decide +kernel, rfl⟩
theorem d_Re_reaches_15 : j_E jm_Re_reaches 15 (.if_icmp .gt) 7 18 22 := ⟨by decide +kernel, rfl, by decide⟩
theorem d_Re_reaches_18 : j_D jm_Re_reaches 18 (.iconst 1) 1 19 := ⟨by decide +kernel, rfl⟩
theorem d_Re_reaches_19 : j_E jm_Re_reaches 19 .goto 4 22 23 := ⟨by decide +kernel, rfl, by decide⟩
theorem d_Re_reaches_22 : j_D jm_Re_reaches 22 (.iconst 0) 1 23 := ⟨by decide +kernel, rfl⟩
theorem d_Re_reaches_23 : j_D jm_Re_reaches 23 .ireturn 1 24 := ⟨by decide +kernel, rfl⟩
theorem d_Re_run_0 : j_D jm_Re_run 0 (.iload_n 3) 1 1 := ⟨by decide +kernel, rfl⟩
theorem d_Re_run_1 : j_D jm_Re_run 1 (.iload_n 2) 1 2 := ⟨by decide +kernel, rfl⟩
theorem d_Re_run_2 : j_D jm_Re_run 2 .isub 1 3 := ⟨by decide +kernel, rfl⟩
theorem d_Re_run_3 : j_D jm_Re_run 3 (.istore 6) 2 5 := ⟨by decide +kernel, rfl⟩
theorem d_Re_run_5 : j_D jm_Re_run 5 (.iload 5) 2 7 := ⟨by decide +kernel, rfl⟩
theorem d_Re_run_7 : j_D jm_Re_run 7 (.iload 4) 2 9 := ⟨by decide +kernel, rfl⟩
theorem d_Re_run_9 : j_D jm_Re_run 9 .isub 1 10 := ⟨by decide +kernel, rfl⟩
theorem d_Re_run_10 : j_D jm_Re_run 10 (.istore 7) 2 12 := ⟨by decide +kernel, rfl⟩
theorem d_Re_run_12 : j_D jm_Re_run 12 (.aload_n 0) 1 13 := ⟨by decide +kernel, rfl⟩
theorem d_Re_run_13 : j_D jm_Re_run 13 (.aload_n 1) 1 14 := ⟨by decide +kernel, rfl⟩
theorem d_Re_run_14 : j_D jm_Re_run 14 (.iload_n 2) 1 15 := ⟨by decide +kernel, rfl⟩
theorem d_Re_run_15 : j_D jm_Re_run 15 (.iload 6) 2 17 := ⟨by decide +kernel, rfl⟩
theorem d_Re_run_17 : j_D jm_Re_run 17 (.iload 4) 2 19 := ⟨by decide +kernel, rfl⟩
theorem d_Re_run_19 : j_D jm_Re_run 19 (.iload 7) 2 21 := ⟨by decide +kernel, rfl⟩
theorem d_Re_run_21 : j_D jm_Re_run 21 (.invokevirtual 40) 3 24 := ⟨by decide +kernel, rfl⟩
theorem d_Re_run_24 : j_D jm_Re_run 24 (.iconst 0) 1 25 := ⟨by decide +kernel, rfl⟩
theorem d_Re_run_25 : j_D jm_Re_run 25 (.istore 8) 2 27 := ⟨by decide +kernel, rfl⟩
theorem d_Re_run_27 : j_D jm_Re_run 27 (.aload_n 0) 1 28 := ⟨by decide +kernel, rfl⟩
theorem d_Re_run_28 : j_D jm_Re_run 28 (.iload 8) 2 30 := ⟨by decide +kernel, rfl⟩
theorem d_Re_run_30 : j_D jm_Re_run 30 (.iconst 0) 1 31 := ⟨by decide +kernel, rfl⟩
theorem d_Re_run_31 : j_D jm_Re_run 31 (.iconst 0) 1 32 := ⟨by decide +kernel, rfl⟩
theorem d_Re_run_32 : j_D jm_Re_run 32 (.iload 6) 2 34 := ⟨by decide +kernel, rfl⟩
theorem d_Re_run_34 : j_D jm_Re_run 34 (.iload 7) 2 36 := ⟨by decide +kernel, rfl⟩
theorem d_Re_run_36 : j_D jm_Re_run 36 (.invokevirtual 44) 3 39 := ⟨by decide +kernel, rfl⟩
theorem d_Re_run_39 : j_E jm_Re_run 39 (.ifCond .ne) 9 42 48 := ⟨by decide +kernel, rfl, by decide⟩
theorem d_Re_run_42 : j_D jm_Re_run 42 (.iinc 8 1) 3 45 := ⟨by decide +kernel, rfl⟩
theorem d_Re_run_45 : j_E jm_Re_run 45 .goto (-18) 48 27 := ⟨by decide +kernel, rfl, by decide⟩
theorem d_Re_run_48 : j_D jm_Re_run 48 (.iconst 0) 1 49 := ⟨by decide +kernel, rfl⟩
theorem d_Re_run_49 : j_D jm_Re_run 49 (.istore 9) 2 51 := ⟨by decide +kernel, rfl⟩
theorem d_Re_run_51 : j_D jm_Re_run 51 (.iconst 0) 1 52 := ⟨by decide +kernel, rfl⟩
theorem d_Re_run_52 : j_D jm_Re_run 52 (.istore 10) 2 54 := ⟨by decide +kernel, rfl⟩
theorem d_Re_run_54 : j_D jm_Re_run 54 (.iload 9) 2 56 := ⟨by decide +kernel, rfl⟩
theorem d_Re_run_56 : j_D jm_Re_run 56 (.iload 6) 2 58 := ⟨by decide +kernel, rfl⟩
theorem d_Re_run_58 : j_E jm_Re_run 58 (.if_icmp .ge) 104 61 162 := ⟨by decide +kernel, rfl, by decide⟩
theorem d_Re_run_61 : j_D jm_Re_run 61 (.iload 10) 2 63 := ⟨by decide +kernel, rfl⟩
theorem d_Re_run_63 : j_D jm_Re_run 63 (.iload 7) 2 65 := ⟨by decide +kernel, rfl⟩
theorem d_Re_run_65 : j_E jm_Re_run 65 (.if_icmp .ge) 97 68 162 := ⟨by decide +kernel, rfl, by decide⟩
theorem d_Re_run_68 : j_D jm_Re_run 68 (.aload_n 1) 1 69 := ⟨by decide +kernel, rfl⟩
theorem d_Re_run_69 : j_D jm_Re_run 69 (.iload_n 2) 1 70 := ⟨by decide +kernel, rfl⟩
theorem d_Re_run_70 : j_D jm_Re_run 70 (.iload 9) 2 72 := ⟨by decide +kernel, rfl⟩
theorem d_Re_run_72 : j_D jm_Re_run 72 .iadd 1 73 := ⟨by decide +kernel, rfl⟩
theorem d_Re_run_73 : j_D jm_Re_run 73 (.iload 4) 2 75 := ⟨by decide +kernel, rfl⟩
theorem d_Re_run_75 : j_D jm_Re_run 75 (.iload 10) 2 77 := ⟨by decide +kernel, rfl⟩
theorem d_Re_run_77 : j_D jm_Re_run 77 .iadd 1 78 := ⟨by decide +kernel, rfl⟩
theorem d_Re_run_78 : j_D jm_Re_run 78 (.invokevirtual 34) 3 81 := ⟨by decide +kernel, rfl⟩
theorem d_Re_run_81 : j_E jm_Re_run 81 (.ifCond .eq) 27 84 108 := ⟨by decide +kernel, rfl, by decide⟩
theorem d_Re_run_84 : j_D jm_Re_run 84 (.aload_n 1) 1 85 := ⟨by decide +kernel, rfl⟩
theorem d_Re_run_85 : j_D jm_Re_run 85 (.getfield 48) 3 88 := ⟨by decide +kernel, rfl⟩
theorem d_Re_run_88 : j_D jm_Re_run 88 (.iload_n 2) 1 89 := ⟨by decide +kernel, rfl⟩
theorem d_Re_run_89 : j_D jm_Re_run 89 (.iload 9) 2 91 := ⟨by decide +kernel, rfl⟩
theorem d_Re_run_91 : j_D jm_Re_run 91 .iadd 1 92 := ⟨by decide +kernel, rfl⟩
theorem d_Re_run_92 : j_D jm_Re_run 92 (.iload 4) 2 94 := ⟨by decide +kernel, rfl⟩
theorem d_Re_run_94 : j_D jm_Re_run 94 (.iload 10) 2 96 := ⟨by decide +kernel, rfl⟩
theorem d_Re_run_96 : j_D jm_Re_run 96 .iadd 1 97 := ⟨by decide +kernel, rfl⟩
theorem d_Re_run_97 : j_D jm_Re_run 97 .i2b 1 98 := ⟨by decide +kernel, rfl⟩
theorem d_Re_run_98 : j_D jm_Re_run 98 .bastore 1 99 := ⟨by decide +kernel, rfl⟩
theorem d_Re_run_99 : j_D jm_Re_run 99 (.iinc 9 1) 3 102 := ⟨by decide +kernel, rfl⟩
theorem d_Re_run_102 : j_D jm_Re_run 102 (.iinc 10 1) 3 105 := ⟨by decide +kernel, rfl⟩
theorem d_Re_run_105 : j_E jm_Re_run 105 .goto (-51) 108 54 := ⟨by decide +kernel, rfl, by decide⟩
theorem d_Re_run_108 : j_D jm_Re_run 108 (.iinc 8 (-1)) 3 111 := ⟨by decide +kernel, rfl⟩
theorem d_Re_run_111 : j_D jm_Re_run 111 (.aload_n 0) 1 112 := ⟨by decide +kernel, rfl⟩
theorem d_Re_run_112 : j_D jm_Re_run 112 (.iload 8) 2 114 := ⟨by decide +kernel, rfl⟩
theorem d_Re_run_114 : j_D jm_Re_run 114 (.iload 9) 2 116 := ⟨by decide +kernel, rfl⟩
theorem d_Re_run_116 : j_D jm_Re_run 116 (.iconst 1) 1 117 := ⟨by decide +kernel, rfl⟩
theorem d_Re_run_117 : j_D jm_Re_run 117 .iadd 1 118 := ⟨by decide +kernel, rfl⟩
theorem d_Re_run_118 : j_D jm_Re_run 118 (.iload 10) 2 120 := ⟨by decide +kernel, rfl⟩
theorem d_Re_run_120 : j_D jm_Re_run 120 (.iload 6) 2 122 := ⟨by decide +kernel, rfl⟩
theorem d_Re_run_122 : j_D jm_Re_run 122 (.iload 7) 2 124 := ⟨by decide +kernel, rfl⟩
theorem d_Re_run_124 : j_D jm_Re_run 124 (.invokevirtual 44) 3 127 := ⟨by decide +kernel, rfl⟩
theorem d_Re_run_127 : j_D jm_Re_run 127 (.istore 11) 2 129 := ⟨by decide +kernel, rfl⟩
theorem d_Re_run_129 : j_D jm_Re_run 129 (.iload 9) 2 131 := ⟨by decide +kernel, rfl⟩
theorem d_Re_run_131 : j_D jm_Re_run 131 (.iload 11) 2 133 := ⟨by decide +kernel, rfl⟩
theorem d_Re_run_133 : j_E jm_Re_run 133 (.ifCond .eq) 7 136 140 := ⟨by decide +kernel, rfl, by decide⟩
theorem d_Re_run_136 : j_D jm_Re_run 136 (.iconst 1) 1 137 := ⟨by decide +kernel, rfl⟩
theorem d_Re_run_137 : j_E jm_Re_run 137 .goto 4 140 141 := ⟨by decide +kernel, rfl, by decide⟩
theorem d_Re_run_140 : j_D jm_Re_run 140 (.iconst 0) 1 141 := ⟨by decide +kernel, rfl⟩
theorem d_Re_run_141 : j_D jm_Re_run 141 .iadd 1 142 := ⟨by decide +kernel, rfl⟩
theorem d_Re_run_142 : j_D jm_Re_run 142 (.istore 9) 2 144 := ⟨by decide +kernel, rfl⟩
theorem d_Re_run_144 : j_D jm_Re_run 144 (.iload 10) 2 146 := ⟨by decide +kernel, rfl⟩
theorem d_Re_run_146 : j_D jm_Re_run 146 (.iload 11) 2 148 := ⟨by decide +kernel, rfl⟩
theorem d_Re_run_148 : j_E jm_Re_run 148 (.ifCond .eq) 7 151 155 := ⟨by decide +kernel, rfl, by decide⟩
theorem d_Re_run_151 : j_D jm_Re_run 151 (.iconst 0) 1 152 := ⟨by decide +kernel, rfl⟩
theorem d_Re_run_152 : j_E jm_Re_run 152 .goto 4 155 156 := ⟨by decide +kernel, rfl, by decide⟩
theorem d_Re_run_155 : j_D jm_Re_run 155 (.iconst 1) 1 156 := ⟨by decide +kernel, rfl⟩
theorem d_Re_run_156 : j_D jm_Re_run 156 .iadd 1 157 := ⟨by decide +kernel, rfl⟩
theorem d_Re_run_157 : j_D jm_Re_run 157 (.istore 10) 2 159 := ⟨by decide +kernel, rfl⟩
theorem d_Re_run_159 : j_E jm_Re_run 159 .goto (-105) 162 54 := ⟨by decide +kernel, rfl, by decide⟩
theorem d_Re_run_162 : j_D jm_Re_run 162 .return_ 1 163 := ⟨by decide +kernel, rfl⟩
theorem f_Pr_12 : j_F "LinePatcher$Pairing" 12 2 0 0 true := ⟨rfl, _, "LinePatcher$Pairing", rfl, by decide, rfl, Or.inl (by decide +kernel), Or.inl rfl⟩
theorem lc_Tx_copy : j_Lc jm_Tx_copy 1 := ⟨by decide +kernel, by decide +kernel, by decide, by decide +kernel, by decide⟩
theorem c_Pr_25 : j_Lv "LinePatcher$Pairing" 25 1 jm_Tx_copy 1 := ⟨by decide +kernel, by decide +kernel, ⟨_, rfl, by decide +kernel⟩, lc_Tx_copy⟩
theorem f_Pr_18 : j_F "LinePatcher$Pairing" 18 2 1 1 true := ⟨rfl, _, "LinePatcher$Pairing", rfl, by decide, rfl, Or.inl (by decide +kernel), Or.inl rfl⟩
theorem f_Pr_21 : j_F "LinePatcher$Pairing" 21 2 2 2 true := ⟨rfl, _, "LinePatcher$Pairing", rfl, by decide, rfl, Or.inl (by decide +kernel), Or.inl rfl⟩
theorem f_Pr_29 : j_F "LinePatcher$Pairing" 29 1 0 0 true := ⟨rfl, _, "LinePatcher$Text", rfl, by decide, rfl, Or.inr ⟨"LinePatcher", by decide +kernel⟩, Or.inl rfl⟩
theorem f_Pr_32 : j_F "LinePatcher$Pairing" 32 1 1 1 false := ⟨rfl, _, "LinePatcher$Text", rfl, by decide, rfl, Or.inr ⟨"LinePatcher", by decide +kernel⟩, Or.inl rfl⟩
theorem f_Re_9 : j_F "LinePatcher$Reaching" 9 3 0 0 true := ⟨rfl, _, "LinePatcher$Reaching", rfl, by decide, rfl, Or.inl (by decide +kernel), Or.inl rfl⟩
theorem lc_Re_cell : j_Lc jm_Re_cell 2 := ⟨by decide +kernel, by decide +kernel, by decide, by decide +kernel, by decide⟩
theorem c_Re_15 : j_Ls "LinePatcher$Reaching" 15 jm_Re_cell 2 := ⟨Or.inl (by decide +kernel), by decide +kernel, rfl, lc_Re_cell⟩
theorem lc_Re_get : j_Lc jm_Re_get 2 := ⟨by decide +kernel, by decide +kernel, by decide, by decide +kernel, by decide⟩
theorem c_Re_19 : j_Lv "LinePatcher$Reaching" 19 3 jm_Re_get 2 := ⟨by decide +kernel, by decide +kernel, ⟨_, rfl, by decide +kernel⟩, lc_Re_get⟩
theorem lc_Ma_max : j_Lc jm_Ma_max 2 := ⟨by decide +kernel, by decide +kernel, by decide, by decide +kernel, by decide⟩
theorem c_Re_22 : j_Ls "LinePatcher$Reaching" 22 jm_Ma_max 2 := ⟨Or.inl (by decide +kernel), by decide +kernel, rfl, lc_Ma_max⟩
theorem lc_Ma_min : j_Lc jm_Ma_min 2 := ⟨by decide +kernel, by decide +kernel, by decide, by decide +kernel, by decide⟩
theorem c_Re_27 : j_Ls "LinePatcher$Reaching" 27 jm_Ma_min 2 := ⟨Or.inl (by decide +kernel), by decide +kernel, rfl, lc_Ma_min⟩
theorem lc_Re_back : j_Lc jm_Re_back 4 := ⟨by decide +kernel, by decide +kernel, by decide, by decide +kernel, by decide⟩
theorem c_Re_30 : j_Lv "LinePatcher$Reaching" 30 3 jm_Re_back 4 := ⟨by decide +kernel, by decide +kernel, ⟨_, rfl, by decide +kernel⟩, lc_Re_back⟩
theorem lc_Pr_equal : j_Lc jm_Pr_equal 2 := ⟨by decide +kernel, by decide +kernel, by decide, by decide +kernel, by decide⟩
theorem c_Re_34 : j_Lv "LinePatcher$Reaching" 34 2 jm_Pr_equal 2 := ⟨by decide +kernel, by decide +kernel, ⟨_, rfl, by decide +kernel⟩, lc_Pr_equal⟩
theorem lc_Re_fill : j_Lc jm_Re_fill 5 := ⟨by decide +kernel, by decide +kernel, by decide, by decide +kernel, by decide⟩
theorem c_Re_40 : j_Lv "LinePatcher$Reaching" 40 3 jm_Re_fill 5 := ⟨by decide +kernel, by decide +kernel, ⟨_, rfl, by decide +kernel⟩, lc_Re_fill⟩
theorem lc_Re_reaches : j_Lc jm_Re_reaches 5 := ⟨by decide +kernel, by decide +kernel, by decide, by decide +kernel, by decide⟩
theorem c_Re_44 : j_Lv "LinePatcher$Reaching" 44 3 jm_Re_reaches 5 := ⟨by decide +kernel, by decide +kernel, ⟨_, rfl, by decide +kernel⟩, lc_Re_reaches⟩
theorem f_Re_48 : j_F "LinePatcher$Reaching" 48 2 2 2 true := ⟨rfl, _, "LinePatcher$Pairing", rfl, by decide, rfl, Or.inr ⟨"LinePatcher", by decide +kernel⟩, Or.inl rfl⟩
theorem s_Pr_begin_0 {G : j_G} {d B S N : Nat} {K : Nat → Option (Nat × Nat)} {M : Nat → Int → Int} {g : Nat → Int → Option Nat} {Q : j_O → j_S → Prop} {a0 a1 a2 y1 : Nat} {u3 : j_V} {q : (Nat → Int → Int) → Prop} (hk1 : K a0 = some (0, 2)) (hg2 : g a0 0 = some y1) (hk2 : K y1 = some (0, 1)) (hC : j_Ct G jm_Tx_copy d 0 0 [jr_ y1, jr_ a1] (N, K, M, g) (j_pV N K g q)) (k1 : ∀ M', q M' → j_J G jm_Pr_begin (d + 1) B S 8 [jr_ a0, jr_ a1, jr_ a2, u3] [] (N, K, M', g) Q) : j_J G jm_Pr_begin (d + 1) B S 0 [jr_ a0, jr_ a1, jr_ a2, u3] [] (N, K, M, g) Q :=
  j_aload_n d_Pr_begin_0 rfl <| j_getR d_Pr_begin_1 f_Pr_12 hk1 hg2 <| j_aload_n d_Pr_begin_4 rfl <| j_aVV (as := [jr_ a1]) (rest := []) d_Pr_begin_5 c_Pr_25 hk2 rfl (Nat.le_of_ble_eq_true rfl) hC k1
theorem s_Pr_begin_8 {G : j_G} {d B S N : Nat} {K : Nat → Option (Nat × Nat)} {M : Nat → Int → Int} {g : Nat → Int → Option Nat} {Q : j_O → j_S → Prop} {a0 a1 a2 y1 : Nat} {u3 : j_V} {q : (Nat → Int → Int) → Prop} (hk1 : K a0 = some (0, 2)) (hg2 : g a0 1 = some y1) (hk2 : K y1 = some (0, 1)) (hC : j_Ct G jm_Tx_copy d 0 0 [jr_ y1, jr_ a2] (N, K, M, g) (j_pV N K g q)) (k1 : ∀ M', q M' → j_J G jm_Pr_begin (d + 1) B S 16 [jr_ a0, jr_ a1, jr_ a2, u3] [] (N, K, M', g) Q) : j_J G jm_Pr_begin (d + 1) B S 8 [jr_ a0, jr_ a1, jr_ a2, u3] [] (N, K, M, g) Q :=
  j_aload_n d_Pr_begin_8 rfl <| j_getR d_Pr_begin_9 f_Pr_18 hk1 hg2 <| j_aload_n d_Pr_begin_12 rfl <| j_aVV (as := [jr_ a2]) (rest := []) d_Pr_begin_13 c_Pr_25 hk2 rfl (Nat.le_of_ble_eq_true rfl) hC k1
theorem s_Pr_begin_16 {G : j_G} {d B S N : Nat} {K : Nat → Option (Nat × Nat)} {M : Nat → Int → Int} {g : Nat → Int → Option Nat} {Q : j_O → j_S → Prop} {a0 a1 a2 : Nat} {u3 : j_V}  (k1 : j_J G jm_Pr_begin d B S 18 [jr_ a0, jr_ a1, jr_ a2, ji_ 0] [] (N, K, M, g) Q) : j_J G jm_Pr_begin d B S 16 [jr_ a0, jr_ a1, jr_ a2, u3] [] (N, K, M, g) Q :=
  j_iconst d_Pr_begin_16 <| j_istore_n d_Pr_begin_17 rfl rfl <| k1
theorem s_Pr_begin_18 {G : j_G} {d B S N : Nat} {K : Nat → Option (Nat × Nat)} {M : Nat → Int → Int} {g : Nat → Int → Option Nat} {Q : j_O → j_S → Prop} {a0 a1 a2 : Nat} {x3 : Int} (r1 : -2147483648 ≤ x3 ∧ x3 ≤ 2147483647 := by omega) (k1 : 24 ≤ x3 → Q (.inl none) (N, K, M, g)) (k2 : x3 < 24 → j_J G jm_Pr_begin d B S 24 [jr_ a0, jr_ a1, jr_ a2, ji_ x3] [] (N, K, M, g) Q) : j_J G jm_Pr_begin d B S 18 [jr_ a0, jr_ a1, jr_ a2, ji_ x3] [] (N, K, M, g) Q :=
  j_iload_n d_Pr_begin_18 rfl <| j_bipush d_Pr_begin_19 (by decide) <| j_icmp_ge d_Pr_begin_21 r1 (by decide) (fun h => j_vreturn d_Pr_begin_37 rfl <| k1 h) k2
theorem s_Pr_begin_24 {G : j_G} {d B S N : Nat} {K : Nat → Option (Nat × Nat)} {M : Nat → Int → Int} {g : Nat → Int → Option Nat} {Q : j_O → j_S → Prop} {a0 a1 a2 y1 n2 : Nat} {x3 : Int} (hk1 : K a0 = some (0, 2)) (hg2 : g a0 2 = some y1) (hk2 : K y1 = some (2, n2)) (r3 : 0 ≤ x3 := by omega) (r3' : x3 < (n2 : Int) := by omega) (r4 : -128 ≤ (-1) ∧ (-1) ≤ 127 := by omega) (k1 : j_J G jm_Pr_begin d B S 18 [jr_ a0, jr_ a1, jr_ a2, ji_ (x3 + 1)] [] (N, K, (j_up M y1 x3 (-1)), g) Q) : j_J G jm_Pr_begin d B S 24 [jr_ a0, jr_ a1, jr_ a2, ji_ x3] [] (N, K, M, g) Q :=
  j_aload_n d_Pr_begin_24 rfl <| j_getR d_Pr_begin_25 f_Pr_21 hk1 hg2 <| j_iload_n d_Pr_begin_28 rfl <| j_iconst d_Pr_begin_29 <| j_bast d_Pr_begin_30 hk2 r3 r3' r4 <| j_iinc d_Pr_begin_31 rfl rfl rfl <| j_goto d_Pr_begin_34 k1
theorem s_Pr_begin_37 {G : j_G} {d B S N : Nat} {K : Nat → Option (Nat × Nat)} {M : Nat → Int → Int} {g : Nat → Int → Option Nat} {Q : j_O → j_S → Prop} {a0 a1 a2 : Nat} {x3 : Int}  (k1 : Q (.inl none) (N, K, M, g)) : j_J G jm_Pr_begin d B S 37 [jr_ a0, jr_ a1, jr_ a2, ji_ x3] [] (N, K, M, g) Q :=
  j_vreturn d_Pr_begin_37 rfl k1
theorem s_Pr_equal_0 {G : j_G} {d B S N : Nat} {K : Nat → Option (Nat × Nat)} {M : Nat → Int → Int} {g : Nat → Int → Option Nat} {Q : j_O → j_S → Prop} {a0 y1 y3 n3 y6 y8 n5 : Nat} {x1 x2 : Int} (hk1 : K a0 = some (0, 2)) (hg2 : g a0 0 = some y1) (hk2 : K y1 = some (0, 1)) (hg4 : g y1 0 = some y3) (hk3 : K y3 = some (2, n3)) (r5 : 0 ≤ x1 := by omega) (r5' : x1 < (n3 : Int) := by omega) (hg7 : g a0 1 = some y6) (hk4 : K y6 = some (0, 1)) (hg9 : g y6 0 = some y8) (hk5 : K y8 = some (2, n5)) (r10 : 0 ≤ x2 := by omega) (r10' : x2 < (n5 : Int) := by omega) (r11 : -2147483648 ≤ (M y3 x1) ∧ (M y3 x1) ≤ 2147483647 := by omega) (r12 : -2147483648 ≤ (M y8 x2) ∧ (M y8 x2) ≤ 2147483647 := by omega) (k1 : (M y3 x1) ≠ (M y8 x2) → Q (.inl (some (ji_ 0))) (N, K, M, g)) (k2 : (M y3 x1) = (M y8 x2) → Q (.inl (some (ji_ 1))) (N, K, M, g)) : j_J G jm_Pr_equal d B S 0 [jr_ a0, ji_ x1, ji_ x2] [] (N, K, M, g) Q :=
  j_aload_n d_Pr_equal_0 rfl <| j_getR d_Pr_equal_1 f_Pr_12 hk1 hg2 <| j_getR d_Pr_equal_4 f_Pr_29 hk2 hg4 <| j_iload_n d_Pr_equal_7 rfl <| j_bald d_Pr_equal_8 hk3 r5 r5' <| j_aload_n d_Pr_equal_9 rfl <| j_getR d_Pr_equal_10 f_Pr_18 hk1 hg7 <| j_getR d_Pr_equal_13 f_Pr_29 hk4 hg9 <| j_iload_n d_Pr_equal_16 rfl <| j_bald d_Pr_equal_17 hk5 r10 r10' <| j_icmp_ne d_Pr_equal_18 r11 r12 (fun h => j_iconst d_Pr_equal_25 <| j_zreturn' d_Pr_equal_26 rfl (Or.inl rfl) <| k1 h) (fun h => j_iconst d_Pr_equal_21 <| j_goto d_Pr_equal_22 <| j_zreturn' d_Pr_equal_26 rfl (Or.inr rfl) <| k2 h)
theorem s_Pr_equal_21 {G : j_G} {d B S N : Nat} {K : Nat → Option (Nat × Nat)} {M : Nat → Int → Int} {g : Nat → Int → Option Nat} {Q : j_O → j_S → Prop} {a0 : Nat} {x1 x2 : Int}  (k1 : Q (.inl (some (ji_ 1))) (N, K, M, g)) : j_J G jm_Pr_equal d B S 21 [jr_ a0, ji_ x1, ji_ x2] [] (N, K, M, g) Q :=
  j_iconst d_Pr_equal_21 <| j_goto d_Pr_equal_22 (j_zreturn' d_Pr_equal_26 rfl (Or.inr rfl) <| k1)
theorem s_Pr_equal_25 {G : j_G} {d B S N : Nat} {K : Nat → Option (Nat × Nat)} {M : Nat → Int → Int} {g : Nat → Int → Option Nat} {Q : j_O → j_S → Prop} {a0 : Nat} {x1 x2 : Int}  (k1 : Q (.inl (some (ji_ 0))) (N, K, M, g)) : j_J G jm_Pr_equal d B S 25 [jr_ a0, ji_ x1, ji_ x2] [] (N, K, M, g) Q :=
  j_iconst d_Pr_equal_25 <| (j_zreturn' d_Pr_equal_26 rfl (Or.inl rfl) <| k1)
theorem s_Pr_equal_26 {G : j_G} {d B S N : Nat} {K : Nat → Option (Nat × Nat)} {M : Nat → Int → Int} {g : Nat → Int → Option Nat} {Q : j_O → j_S → Prop} {a0 : Nat} {x1 x2 t0 : Int} (hz1 : t0 = 0 ∨ t0 = 1) (k1 : Q (.inl (some (ji_ t0))) (N, K, M, g)) : j_J G jm_Pr_equal d B S 26 [jr_ a0, ji_ x1, ji_ x2] [ji_ t0] (N, K, M, g) Q :=
  j_zreturn' d_Pr_equal_26 rfl hz1 k1
theorem s_Pr_changes_0 {G : j_G} {d B S N : Nat} {K : Nat → Option (Nat × Nat)} {M : Nat → Int → Int} {g : Nat → Int → Option Nat} {Q : j_O → j_S → Prop} {a0 y1 y3 : Nat} {u1 u2 : j_V} (hk1 : K a0 = some (0, 2)) (hg2 : g a0 0 = some y1) (hk2 : K y1 = some (0, 1)) (hg4 : g a0 1 = some y3) (hk3 : K y3 = some (0, 1)) (k1 : j_J G jm_Pr_changes d B S 18 [jr_ a0, ji_ ((M y1 1) + (M y3 1)), ji_ 0] [] (N, K, M, g) Q) : j_J G jm_Pr_changes d B S 0 [jr_ a0, u1, u2] [] (N, K, M, g) Q :=
  j_aload_n d_Pr_changes_0 rfl <| j_getR d_Pr_changes_1 f_Pr_12 hk1 hg2 <| j_getI d_Pr_changes_4 f_Pr_32 hk2 <| j_aload_n d_Pr_changes_7 rfl <| j_getR d_Pr_changes_8 f_Pr_18 hk1 hg4 <| j_getI d_Pr_changes_11 f_Pr_32 hk3 <| j_iadd d_Pr_changes_14 <| j_istore_n d_Pr_changes_15 rfl rfl <| j_iconst d_Pr_changes_16 <| j_istore_n d_Pr_changes_17 rfl rfl <| k1
theorem s_Pr_changes_18 {G : j_G} {d B S N : Nat} {K : Nat → Option (Nat × Nat)} {M : Nat → Int → Int} {g : Nat → Int → Option Nat} {Q : j_O → j_S → Prop} {a0 y1 : Nat} {x1 x2 : Int} (hk1 : K a0 = some (0, 2)) (hg2 : g a0 0 = some y1) (hk2 : K y1 = some (0, 1)) (r3 : -2147483648 ≤ x2 ∧ x2 ≤ 2147483647 := by omega) (r4 : -2147483648 ≤ (M y1 1) ∧ (M y1 1) ≤ 2147483647 := by omega) (k1 : (M y1 1) ≤ x2 → Q (.inl (some (ji_ x1))) (N, K, M, g)) (k2 : x2 < (M y1 1) → j_J G jm_Pr_changes d B S 29 [jr_ a0, ji_ x1, ji_ x2] [] (N, K, M, g) Q) : j_J G jm_Pr_changes d B S 18 [jr_ a0, ji_ x1, ji_ x2] [] (N, K, M, g) Q :=
  j_iload_n d_Pr_changes_18 rfl <| j_aload_n d_Pr_changes_19 rfl <| j_getR d_Pr_changes_20 f_Pr_12 hk1 hg2 <| j_getI d_Pr_changes_23 f_Pr_32 hk2 <| j_icmp_ge d_Pr_changes_26 r3 r4 (fun h => j_iload_n d_Pr_changes_52 rfl <| j_ireturn d_Pr_changes_53 rfl <| k1 h) k2
theorem s_Pr_changes_29 {G : j_G} {d B S N : Nat} {K : Nat → Option (Nat × Nat)} {M : Nat → Int → Int} {g : Nat → Int → Option Nat} {Q : j_O → j_S → Prop} {a0 y1 n2 : Nat} {x1 x2 : Int} (hk1 : K a0 = some (0, 2)) (hg2 : g a0 2 = some y1) (hk2 : K y1 = some (2, n2)) (r3 : 0 ≤ x2 := by omega) (r3' : x2 < (n2 : Int) := by omega) (r4 : -2147483648 ≤ (M y1 x2) ∧ (M y1 x2) ≤ 2147483647 := by omega) (k1 : (M y1 x2) < 0 → j_J G jm_Pr_changes d B S 18 [jr_ a0, ji_ (x1 - 0), ji_ (x2 + 1)] [] (N, K, M, g) Q) (k2 : 0 ≤ (M y1 x2) → j_J G jm_Pr_changes d B S 18 [jr_ a0, ji_ (x1 - 2), ji_ (x2 + 1)] [] (N, K, M, g) Q) : j_J G jm_Pr_changes d B S 29 [jr_ a0, ji_ x1, ji_ x2] [] (N, K, M, g) Q :=
  j_iload_n d_Pr_changes_29 rfl <| j_aload_n d_Pr_changes_30 rfl <| j_getR d_Pr_changes_31 f_Pr_21 hk1 hg2 <| j_iload_n d_Pr_changes_34 rfl <| j_bald d_Pr_changes_35 hk2 r3 r3' <| j_if_lt d_Pr_changes_36 r4 (fun h => j_iconst d_Pr_changes_43 <| j_isub d_Pr_changes_44 <| j_istore_n d_Pr_changes_45 rfl rfl <| j_iinc d_Pr_changes_46 rfl rfl rfl <| j_goto d_Pr_changes_49 <| k1 h) (fun h => j_iconst d_Pr_changes_39 <| j_goto d_Pr_changes_40 <| j_isub d_Pr_changes_44 <| j_istore_n d_Pr_changes_45 rfl rfl <| j_iinc d_Pr_changes_46 rfl rfl rfl <| j_goto d_Pr_changes_49 <| k2 h)
theorem s_Pr_changes_39 {G : j_G} {d B S N : Nat} {K : Nat → Option (Nat × Nat)} {M : Nat → Int → Int} {g : Nat → Int → Option Nat} {Q : j_O → j_S → Prop} {a0 : Nat} {x1 x2 t0 : Int}  (k1 : j_J G jm_Pr_changes d B S 18 [jr_ a0, ji_ (t0 - 2), ji_ (x2 + 1)] [] (N, K, M, g) Q) : j_J G jm_Pr_changes d B S 39 [jr_ a0, ji_ x1, ji_ x2] [ji_ t0] (N, K, M, g) Q :=
  j_iconst d_Pr_changes_39 <| j_goto d_Pr_changes_40 (j_isub d_Pr_changes_44 <| j_istore_n d_Pr_changes_45 rfl rfl <| j_iinc d_Pr_changes_46 rfl rfl rfl <| j_goto d_Pr_changes_49 <| k1)
theorem s_Pr_changes_43 {G : j_G} {d B S N : Nat} {K : Nat → Option (Nat × Nat)} {M : Nat → Int → Int} {g : Nat → Int → Option Nat} {Q : j_O → j_S → Prop} {a0 : Nat} {x1 x2 t0 : Int}  (k1 : j_J G jm_Pr_changes d B S 18 [jr_ a0, ji_ (t0 - 0), ji_ (x2 + 1)] [] (N, K, M, g) Q) : j_J G jm_Pr_changes d B S 43 [jr_ a0, ji_ x1, ji_ x2] [ji_ t0] (N, K, M, g) Q :=
  j_iconst d_Pr_changes_43 <| (j_isub d_Pr_changes_44 <| j_istore_n d_Pr_changes_45 rfl rfl <| j_iinc d_Pr_changes_46 rfl rfl rfl <| j_goto d_Pr_changes_49 <| k1)
theorem s_Pr_changes_44 {G : j_G} {d B S N : Nat} {K : Nat → Option (Nat × Nat)} {M : Nat → Int → Int} {g : Nat → Int → Option Nat} {Q : j_O → j_S → Prop} {a0 : Nat} {x1 x2 t0 t1 : Int}  (k1 : j_J G jm_Pr_changes d B S 18 [jr_ a0, ji_ (t0 - t1), ji_ (x2 + 1)] [] (N, K, M, g) Q) : j_J G jm_Pr_changes d B S 44 [jr_ a0, ji_ x1, ji_ x2] [ji_ t1, ji_ t0] (N, K, M, g) Q :=
  j_isub d_Pr_changes_44 <| j_istore_n d_Pr_changes_45 rfl rfl <| j_iinc d_Pr_changes_46 rfl rfl rfl <| j_goto d_Pr_changes_49 k1
theorem s_Pr_changes_52 {G : j_G} {d B S N : Nat} {K : Nat → Option (Nat × Nat)} {M : Nat → Int → Int} {g : Nat → Int → Option Nat} {Q : j_O → j_S → Prop} {a0 : Nat} {x1 x2 : Int}  (k1 : Q (.inl (some (ji_ x1))) (N, K, M, g)) : j_J G jm_Pr_changes d B S 52 [jr_ a0, ji_ x1, ji_ x2] [] (N, K, M, g) Q :=
  j_iload_n d_Pr_changes_52 rfl <| j_ireturn d_Pr_changes_53 rfl k1
theorem s_Re_cell_0 {G : j_G} {d B S N : Nat} {K : Nat → Option (Nat × Nat)} {M : Nat → Int → Int} {g : Nat → Int → Option Nat} {Q : j_O → j_S → Prop} {x0 x1 : Int} (r1 : -2147483648 ≤ (x0 * (x0 + 1)) ∧ (x0 * (x0 + 1)) ≤ 2147483647 := by omega) (r2 : -2147483648 ≤ (x1 + x0) ∧ (x1 + x0) ≤ 2147483647 := by omega) (k1 : Q (.inl (some (ji_ ((Int.tdiv (x0 * (x0 + 1)) 2) + (Int.tdiv (x1 + x0) 2))))) (N, K, M, g)) : j_J G jm_Re_cell d B S 0 [ji_ x0, ji_ x1] [] (N, K, M, g) Q :=
  j_iload_n d_Re_cell_0 rfl <| j_iload_n d_Re_cell_1 rfl <| j_iconst d_Re_cell_2 <| j_iadd d_Re_cell_3 <| j_imul d_Re_cell_4 <| j_iconst d_Re_cell_5 <| j_idiv d_Re_cell_6 r1 (by decide) (by decide) <| j_iload_n d_Re_cell_7 rfl <| j_iload_n d_Re_cell_8 rfl <| j_iadd d_Re_cell_9 <| j_iconst d_Re_cell_10 <| j_idiv d_Re_cell_11 r2 (by decide) (by decide) <| j_iadd d_Re_cell_12 <| j_ireturn d_Re_cell_13 rfl k1
theorem s_Re_get_0 {G : j_G} {d B S N : Nat} {K : Nat → Option (Nat × Nat)} {M : Nat → Int → Int} {g : Nat → Int → Option Nat} {Q : j_O → j_S → Prop} {a0 : Nat} {x1 x2 : Int} (r1 : -2147483648 ≤ x1 ∧ x1 ≤ 2147483647 := by omega) (k1 : x1 < 0 → Q (.inl (some (ji_ 99))) (N, K, M, g)) (k2 : 0 ≤ x1 → j_J G jm_Re_get d B S 4 [jr_ a0, ji_ x1, ji_ x2] [] (N, K, M, g) Q) : j_J G jm_Re_get d B S 0 [jr_ a0, ji_ x1, ji_ x2] [] (N, K, M, g) Q :=
  j_iload_n d_Re_get_0 rfl <| j_if_lt d_Re_get_1 r1 (fun h => j_bipush d_Re_get_23 (by decide) <| j_goto d_Re_get_25 <| j_ireturn d_Re_get_38 rfl <| k1 h) k2
theorem s_Re_get_4 {G : j_G} {d B S N : Nat} {K : Nat → Option (Nat × Nat)} {M : Nat → Int → Int} {g : Nat → Int → Option Nat} {Q : j_O → j_S → Prop} {a0 : Nat} {x1 x2 : Int} (r1 : -2147483648 ≤ x2 ∧ x2 ≤ 2147483647 := by omega) (r2 : -2147483648 ≤ (-x1) ∧ (-x1) ≤ 2147483647 := by omega) (k1 : x2 < (-x1) → Q (.inl (some (ji_ 99))) (N, K, M, g)) (k2 : (-x1) ≤ x2 → j_J G jm_Re_get d B S 10 [jr_ a0, ji_ x1, ji_ x2] [] (N, K, M, g) Q) : j_J G jm_Re_get d B S 4 [jr_ a0, ji_ x1, ji_ x2] [] (N, K, M, g) Q :=
  j_iload_n d_Re_get_4 rfl <| j_iload_n d_Re_get_5 rfl <| j_ineg d_Re_get_6 <| j_icmp_lt d_Re_get_7 r1 r2 (fun h => j_bipush d_Re_get_23 (by decide) <| j_goto d_Re_get_25 <| j_ireturn d_Re_get_38 rfl <| k1 h) k2
theorem s_Re_get_10 {G : j_G} {d B S N : Nat} {K : Nat → Option (Nat × Nat)} {M : Nat → Int → Int} {g : Nat → Int → Option Nat} {Q : j_O → j_S → Prop} {a0 : Nat} {x1 x2 : Int} (r1 : -2147483648 ≤ x2 ∧ x2 ≤ 2147483647 := by omega) (r2 : -2147483648 ≤ x1 ∧ x1 ≤ 2147483647 := by omega) (k1 : x1 < x2 → Q (.inl (some (ji_ 99))) (N, K, M, g)) (k2 : x2 ≤ x1 → j_J G jm_Re_get d B S 15 [jr_ a0, ji_ x1, ji_ x2] [] (N, K, M, g) Q) : j_J G jm_Re_get d B S 10 [jr_ a0, ji_ x1, ji_ x2] [] (N, K, M, g) Q :=
  j_iload_n d_Re_get_10 rfl <| j_iload_n d_Re_get_11 rfl <| j_icmp_gt d_Re_get_12 r1 r2 (fun h => j_bipush d_Re_get_23 (by decide) <| j_goto d_Re_get_25 <| j_ireturn d_Re_get_38 rfl <| k1 h) k2
theorem s_Re_get_15 {G : j_G} {d B S N : Nat} {K : Nat → Option (Nat × Nat)} {M : Nat → Int → Int} {g : Nat → Int → Option Nat} {Q : j_O → j_S → Prop} {a0 : Nat} {x1 x2 : Int} (r1 : -2147483648 ≤ (x2 + x1) ∧ (x2 + x1) ≤ 2147483647 := by omega) (r2 : -2147483648 ≤ (Int.tmod (x2 + x1) 2) ∧ (Int.tmod (x2 + x1) 2) ≤ 2147483647 := by omega) (k1 : (Int.tmod (x2 + x1) 2) = 0 → j_J G jm_Re_get d B S 28 [jr_ a0, ji_ x1, ji_ x2] [] (N, K, M, g) Q) (k2 : (Int.tmod (x2 + x1) 2) ≠ 0 → Q (.inl (some (ji_ 99))) (N, K, M, g)) : j_J G jm_Re_get d B S 15 [jr_ a0, ji_ x1, ji_ x2] [] (N, K, M, g) Q :=
  j_iload_n d_Re_get_15 rfl <| j_iload_n d_Re_get_16 rfl <| j_iadd d_Re_get_17 <| j_iconst d_Re_get_18 <| j_irem d_Re_get_19 r1 (by decide) (by decide) <| j_if_eq d_Re_get_20 r2 k1 (fun h => j_bipush d_Re_get_23 (by decide) <| j_goto d_Re_get_25 <| j_ireturn d_Re_get_38 rfl <| k2 h)
theorem s_Re_get_23 {G : j_G} {d B S N : Nat} {K : Nat → Option (Nat × Nat)} {M : Nat → Int → Int} {g : Nat → Int → Option Nat} {Q : j_O → j_S → Prop} {a0 : Nat} {x1 x2 : Int}  (k1 : Q (.inl (some (ji_ 99))) (N, K, M, g)) : j_J G jm_Re_get d B S 23 [jr_ a0, ji_ x1, ji_ x2] [] (N, K, M, g) Q :=
  j_bipush d_Re_get_23 (by decide) <| j_goto d_Re_get_25 (j_ireturn d_Re_get_38 rfl <| k1)
theorem s_Re_get_28 {G : j_G} {d B S N : Nat} {K : Nat → Option (Nat × Nat)} {M : Nat → Int → Int} {g : Nat → Int → Option Nat} {Q : j_O → j_S → Prop} {a0 y1 : Nat} {x1 x2 : Int} {q : Int → (Nat → Int → Int) → Prop} (hk1 : K a0 = some (0, 3)) (hg2 : g a0 0 = some y1) (hC : j_Ct G jm_Re_cell d 0 0 [ji_ x1, ji_ x2] (N, K, M, g) (j_pI N K g q)) (k1 : ∀ z M', q z M' → j_J G jm_Re_get (d + 1) B S 37 [jr_ a0, ji_ x1, ji_ x2] [ji_ z, jr_ y1] (N, K, M', g) Q) : j_J G jm_Re_get (d + 1) B S 28 [jr_ a0, ji_ x1, ji_ x2] [] (N, K, M, g) Q :=
  j_aload_n d_Re_get_28 rfl <| j_getR d_Re_get_29 f_Re_9 hk1 hg2 <| j_iload_n d_Re_get_32 rfl <| j_iload_n d_Re_get_33 rfl <| j_aSI (as := [ji_ x1, ji_ x2]) (rest := [jr_ y1]) d_Re_get_34 c_Re_15 rfl (Nat.le_of_ble_eq_true rfl) hC k1
theorem s_Re_get_37 {G : j_G} {d B S N : Nat} {K : Nat → Option (Nat × Nat)} {M : Nat → Int → Int} {g : Nat → Int → Option Nat} {Q : j_O → j_S → Prop} {a0 b0 n1 : Nat} {x1 x2 t1 : Int} (hk1 : K b0 = some (2, n1)) (r1 : 0 ≤ t1 := by omega) (r1' : t1 < (n1 : Int) := by omega) (k1 : Q (.inl (some (ji_ (M b0 t1)))) (N, K, M, g)) : j_J G jm_Re_get d B S 37 [jr_ a0, ji_ x1, ji_ x2] [ji_ t1, jr_ b0] (N, K, M, g) Q :=
  j_bald d_Re_get_37 hk1 r1 r1' <| (j_ireturn d_Re_get_38 rfl <| k1)
theorem s_Re_get_38 {G : j_G} {d B S N : Nat} {K : Nat → Option (Nat × Nat)} {M : Nat → Int → Int} {g : Nat → Int → Option Nat} {Q : j_O → j_S → Prop} {a0 : Nat} {x1 x2 t0 : Int}  (k1 : Q (.inl (some (ji_ t0))) (N, K, M, g)) : j_J G jm_Re_get d B S 38 [jr_ a0, ji_ x1, ji_ x2] [ji_ t0] (N, K, M, g) Q :=
  j_ireturn d_Re_get_38 rfl k1
theorem s_Re_back_0 {G : j_G} {d B S N : Nat} {K : Nat → Option (Nat × Nat)} {M : Nat → Int → Int} {g : Nat → Int → Option Nat} {Q : j_O → j_S → Prop} {a0 : Nat} {x1 x2 x3 x4 : Int} {u5 u6 u7 : j_V} {q : Int → (Nat → Int → Int) → Prop} (hk1 : K a0 = some (0, 3)) (hC : j_Ct G jm_Re_get d 0 0 [jr_ a0, ji_ x1, ji_ (x2 + 1)] (N, K, M, g) (j_pI N K g q)) (k1 : ∀ z M', q z M' → j_J G jm_Re_back (d + 1) B S 16 [jr_ a0, ji_ x1, ji_ x2, ji_ x3, ji_ x4, ji_ ((x3 - x4) + x2), u6, u7] [ji_ z] (N, K, M', g) Q) : j_J G jm_Re_back (d + 1) B S 0 [jr_ a0, ji_ x1, ji_ x2, ji_ x3, ji_ x4, u5, u6, u7] [] (N, K, M, g) Q :=
  j_iload_n d_Re_back_0 rfl <| j_iload d_Re_back_1 rfl <| j_isub d_Re_back_3 <| j_iload_n d_Re_back_4 rfl <| j_iadd d_Re_back_5 <| j_istore d_Re_back_6 rfl rfl <| j_aload_n d_Re_back_8 rfl <| j_iload_n d_Re_back_9 rfl <| j_iload_n d_Re_back_10 rfl <| j_iconst d_Re_back_11 <| j_iadd d_Re_back_12 <| j_aVI (as := [ji_ x1, ji_ (x2 + 1)]) (rest := []) d_Re_back_13 c_Re_19 hk1 rfl (Nat.le_of_ble_eq_true rfl) hC k1
theorem s_Re_back_16 {G : j_G} {d B S N : Nat} {K : Nat → Option (Nat × Nat)} {M : Nat → Int → Int} {g : Nat → Int → Option Nat} {Q : j_O → j_S → Prop} {a0 : Nat} {x1 x2 x3 x4 x5 t0 : Int} {u6 u7 : j_V} {q : Int → (Nat → Int → Int) → Prop} (hk1 : K a0 = some (0, 3)) (hC : j_Ct G jm_Re_get d 0 0 [jr_ a0, ji_ x1, ji_ (x2 - 1)] (N, K, M, g) (j_pI N K g q)) (k1 : ∀ z M', q z M' → j_J G jm_Re_back (d + 1) B S 26 [jr_ a0, ji_ x1, ji_ x2, ji_ x3, ji_ x4, ji_ x5, ji_ t0, u7] [ji_ z] (N, K, M', g) Q) : j_J G jm_Re_back (d + 1) B S 16 [jr_ a0, ji_ x1, ji_ x2, ji_ x3, ji_ x4, ji_ x5, u6, u7] [ji_ t0] (N, K, M, g) Q :=
  j_istore d_Re_back_16 rfl rfl <| j_aload_n d_Re_back_18 rfl <| j_iload_n d_Re_back_19 rfl <| j_iload_n d_Re_back_20 rfl <| j_iconst d_Re_back_21 <| j_isub d_Re_back_22 <| j_aVI (as := [ji_ x1, ji_ (x2 - 1)]) (rest := []) d_Re_back_23 c_Re_19 hk1 rfl (Nat.le_of_ble_eq_true rfl) hC k1
theorem s_Re_back_26 {G : j_G} {d B S N : Nat} {K : Nat → Option (Nat × Nat)} {M : Nat → Int → Int} {g : Nat → Int → Option Nat} {Q : j_O → j_S → Prop} {a0 : Nat} {x1 x2 x3 x4 x5 x6 t0 : Int} {u7 : j_V} (r1 : -2147483648 ≤ x6 ∧ x6 ≤ 2147483647 := by omega) (k1 : x6 ≠ 99 → j_J G jm_Re_back d B S 40 [jr_ a0, ji_ x1, ji_ x2, ji_ x3, ji_ x4, ji_ x5, ji_ x6, ji_ t0] [] (N, K, M, g) Q) (k2 : x6 = 99 → j_J G jm_Re_back d B S 48 [jr_ a0, ji_ x1, ji_ x2, ji_ x3, ji_ x4, ji_ x5, ji_ x6, ji_ t0] [ji_ 99] (N, K, M, g) Q) : j_J G jm_Re_back d B S 26 [jr_ a0, ji_ x1, ji_ x2, ji_ x3, ji_ x4, ji_ x5, ji_ x6, u7] [ji_ t0] (N, K, M, g) Q :=
  j_istore d_Re_back_26 rfl rfl <| j_iload d_Re_back_28 rfl <| j_bipush d_Re_back_30 (by decide) <| j_icmp_ne d_Re_back_32 r1 (by decide) k1 (fun h => j_bipush d_Re_back_35 (by decide) <| j_goto d_Re_back_37 <| k2 h)
theorem s_Re_back_35 {G : j_G} {d B S N : Nat} {K : Nat → Option (Nat × Nat)} {M : Nat → Int → Int} {g : Nat → Int → Option Nat} {Q : j_O → j_S → Prop} {a0 : Nat} {x1 x2 x3 x4 x5 x6 x7 : Int}  (k1 : j_J G jm_Re_back d B S 48 [jr_ a0, ji_ x1, ji_ x2, ji_ x3, ji_ x4, ji_ x5, ji_ x6, ji_ x7] [ji_ 99] (N, K, M, g) Q) : j_J G jm_Re_back d B S 35 [jr_ a0, ji_ x1, ji_ x2, ji_ x3, ji_ x4, ji_ x5, ji_ x6, ji_ x7] [] (N, K, M, g) Q :=
  j_bipush d_Re_back_35 (by decide) <| j_goto d_Re_back_37 k1
theorem s_Re_back_40 {G : j_G} {d B S N : Nat} {K : Nat → Option (Nat × Nat)} {M : Nat → Int → Int} {g : Nat → Int → Option Nat} {Q : j_O → j_S → Prop} {a0 : Nat} {x1 x2 x3 x4 x5 x6 x7 : Int} {q : Int → (Nat → Int → Int) → Prop} (hC : j_Ct G jm_Ma_max d 0 0 [ji_ (x6 - 1), ji_ 0] (N, K, M, g) (j_pI N K g q)) (k1 : ∀ z M', q z M' → j_J G jm_Re_back (d + 1) B S 48 [jr_ a0, ji_ x1, ji_ x2, ji_ x3, ji_ x4, ji_ x5, ji_ x6, ji_ x7] [ji_ z] (N, K, M', g) Q) : j_J G jm_Re_back (d + 1) B S 40 [jr_ a0, ji_ x1, ji_ x2, ji_ x3, ji_ x4, ji_ x5, ji_ x6, ji_ x7] [] (N, K, M, g) Q :=
  j_iload d_Re_back_40 rfl <| j_iconst d_Re_back_42 <| j_isub d_Re_back_43 <| j_iconst d_Re_back_44 <| j_aSI (as := [ji_ (x6 - 1), ji_ 0]) (rest := []) d_Re_back_45 c_Re_22 rfl (Nat.le_of_ble_eq_true rfl) hC k1
theorem s_Re_back_48 {G : j_G} {d B S N : Nat} {K : Nat → Option (Nat × Nat)} {M : Nat → Int → Int} {g : Nat → Int → Option Nat} {Q : j_O → j_S → Prop} {a0 : Nat} {x1 x2 x3 x4 x5 x6 x7 t0 : Int} (r1 : -2147483648 ≤ x7 ∧ x7 ≤ 2147483647 := by omega) (k1 : x7 ≠ 99 → j_J G jm_Re_back d B S 62 [jr_ a0, ji_ x1, ji_ x2, ji_ x3, ji_ x4, ji_ x5, ji_ t0, ji_ x7] [] (N, K, M, g) Q) (k2 : x7 = 99 → j_J G jm_Re_back d B S 73 [jr_ a0, ji_ x1, ji_ x2, ji_ x3, ji_ x4, ji_ x5, ji_ t0, ji_ x7] [ji_ 99] (N, K, M, g) Q) : j_J G jm_Re_back d B S 48 [jr_ a0, ji_ x1, ji_ x2, ji_ x3, ji_ x4, ji_ x5, ji_ x6, ji_ x7] [ji_ t0] (N, K, M, g) Q :=
  j_istore d_Re_back_48 rfl rfl <| j_iload d_Re_back_50 rfl <| j_bipush d_Re_back_52 (by decide) <| j_icmp_ne d_Re_back_54 r1 (by decide) k1 (fun h => j_bipush d_Re_back_57 (by decide) <| j_goto d_Re_back_59 <| k2 h)
theorem s_Re_back_57 {G : j_G} {d B S N : Nat} {K : Nat → Option (Nat × Nat)} {M : Nat → Int → Int} {g : Nat → Int → Option Nat} {Q : j_O → j_S → Prop} {a0 : Nat} {x1 x2 x3 x4 x5 x6 x7 : Int}  (k1 : j_J G jm_Re_back d B S 73 [jr_ a0, ji_ x1, ji_ x2, ji_ x3, ji_ x4, ji_ x5, ji_ x6, ji_ x7] [ji_ 99] (N, K, M, g) Q) : j_J G jm_Re_back d B S 57 [jr_ a0, ji_ x1, ji_ x2, ji_ x3, ji_ x4, ji_ x5, ji_ x6, ji_ x7] [] (N, K, M, g) Q :=
  j_bipush d_Re_back_57 (by decide) <| j_goto d_Re_back_59 k1
theorem s_Re_back_62 {G : j_G} {d B S N : Nat} {K : Nat → Option (Nat × Nat)} {M : Nat → Int → Int} {g : Nat → Int → Option Nat} {Q : j_O → j_S → Prop} {a0 : Nat} {x1 x2 x3 x4 x5 x6 x7 : Int} {q : Int → (Nat → Int → Int) → Prop} (hC : j_Ct G jm_Ma_max d 0 0 [ji_ x5, ji_ 0] (N, K, M, g) (j_pI N K g q)) (k1 : ∀ z M', q z M' → j_J G jm_Re_back (d + 1) B S 70 [jr_ a0, ji_ x1, ji_ x2, ji_ x3, ji_ x4, ji_ x5, ji_ x6, ji_ x7] [ji_ z, ji_ x7] (N, K, M', g) Q) : j_J G jm_Re_back (d + 1) B S 62 [jr_ a0, ji_ x1, ji_ x2, ji_ x3, ji_ x4, ji_ x5, ji_ x6, ji_ x7] [] (N, K, M, g) Q :=
  j_iload d_Re_back_62 rfl <| j_iload d_Re_back_64 rfl <| j_iconst d_Re_back_66 <| j_aSI (as := [ji_ x5, ji_ 0]) (rest := [ji_ x7]) d_Re_back_67 c_Re_22 rfl (Nat.le_of_ble_eq_true rfl) hC k1
theorem s_Re_back_70 {G : j_G} {d B S N : Nat} {K : Nat → Option (Nat × Nat)} {M : Nat → Int → Int} {g : Nat → Int → Option Nat} {Q : j_O → j_S → Prop} {a0 : Nat} {x1 x2 x3 x4 x5 x6 x7 t0 t1 : Int} {q : Int → (Nat → Int → Int) → Prop} (hC : j_Ct G jm_Ma_max d 0 0 [ji_ t0, ji_ t1] (N, K, M, g) (j_pI N K g q)) (k1 : ∀ z M', q z M' → j_J G jm_Re_back (d + 1) B S 73 [jr_ a0, ji_ x1, ji_ x2, ji_ x3, ji_ x4, ji_ x5, ji_ x6, ji_ x7] [ji_ z] (N, K, M', g) Q) : j_J G jm_Re_back (d + 1) B S 70 [jr_ a0, ji_ x1, ji_ x2, ji_ x3, ji_ x4, ji_ x5, ji_ x6, ji_ x7] [ji_ t1, ji_ t0] (N, K, M, g) Q :=
  j_aSI (as := [ji_ t0, ji_ t1]) (rest := []) d_Re_back_70 c_Re_22 rfl (Nat.le_of_ble_eq_true rfl) hC k1
theorem s_Re_back_73 {G : j_G} {d B S N : Nat} {K : Nat → Option (Nat × Nat)} {M : Nat → Int → Int} {g : Nat → Int → Option Nat} {Q : j_O → j_S → Prop} {a0 : Nat} {x1 x2 x3 x4 x5 x6 x7 t0 : Int} (r1 : -2147483648 ≤ x6 ∧ x6 ≤ 2147483647 := by omega) (k1 : x6 = 99 → j_J G jm_Re_back d B S 97 [jr_ a0, ji_ x1, ji_ x2, ji_ x3, ji_ x4, ji_ x5, ji_ x6, ji_ t0] [ji_ 99] (N, K, M, g) Q) (k2 : x6 ≠ 99 → j_J G jm_Re_back d B S 82 [jr_ a0, ji_ x1, ji_ x2, ji_ x3, ji_ x4, ji_ x5, ji_ x6, ji_ t0] [] (N, K, M, g) Q) : j_J G jm_Re_back d B S 73 [jr_ a0, ji_ x1, ji_ x2, ji_ x3, ji_ x4, ji_ x5, ji_ x6, ji_ x7] [ji_ t0] (N, K, M, g) Q :=
  j_istore d_Re_back_73 rfl rfl <| j_iload d_Re_back_75 rfl <| j_bipush d_Re_back_77 (by decide) <| j_icmp_eq d_Re_back_79 r1 (by decide) (fun h => j_bipush d_Re_back_90 (by decide) <| j_goto d_Re_back_92 <| k1 h) k2
theorem s_Re_back_82 {G : j_G} {d B S N : Nat} {K : Nat → Option (Nat × Nat)} {M : Nat → Int → Int} {g : Nat → Int → Option Nat} {Q : j_O → j_S → Prop} {a0 : Nat} {x1 x2 x3 x4 x5 x6 x7 : Int} (r1 : -2147483648 ≤ (x6 + 1) ∧ (x6 + 1) ≤ 2147483647 := by omega) (r2 : -2147483648 ≤ x3 ∧ x3 ≤ 2147483647 := by omega) (k1 : (x6 + 1) ≤ x3 → j_J G jm_Re_back d B S 97 [jr_ a0, ji_ x1, ji_ x2, ji_ x3, ji_ x4, ji_ x5, ji_ x6, ji_ x7] [ji_ x6] (N, K, M, g) Q) (k2 : x3 < (x6 + 1) → j_J G jm_Re_back d B S 97 [jr_ a0, ji_ x1, ji_ x2, ji_ x3, ji_ x4, ji_ x5, ji_ x6, ji_ x7] [ji_ 99] (N, K, M, g) Q) : j_J G jm_Re_back d B S 82 [jr_ a0, ji_ x1, ji_ x2, ji_ x3, ji_ x4, ji_ x5, ji_ x6, ji_ x7] [] (N, K, M, g) Q :=
  j_iload d_Re_back_82 rfl <| j_iconst d_Re_back_84 <| j_iadd d_Re_back_85 <| j_iload_n d_Re_back_86 rfl <| j_icmp_le d_Re_back_87 r1 r2 (fun h => j_iload d_Re_back_95 rfl <| k1 h) (fun h => j_bipush d_Re_back_90 (by decide) <| j_goto d_Re_back_92 <| k2 h)
theorem s_Re_back_90 {G : j_G} {d B S N : Nat} {K : Nat → Option (Nat × Nat)} {M : Nat → Int → Int} {g : Nat → Int → Option Nat} {Q : j_O → j_S → Prop} {a0 : Nat} {x1 x2 x3 x4 x5 x6 x7 : Int}  (k1 : j_J G jm_Re_back d B S 97 [jr_ a0, ji_ x1, ji_ x2, ji_ x3, ji_ x4, ji_ x5, ji_ x6, ji_ x7] [ji_ 99] (N, K, M, g) Q) : j_J G jm_Re_back d B S 90 [jr_ a0, ji_ x1, ji_ x2, ji_ x3, ji_ x4, ji_ x5, ji_ x6, ji_ x7] [] (N, K, M, g) Q :=
  j_bipush d_Re_back_90 (by decide) <| j_goto d_Re_back_92 k1
theorem s_Re_back_95 {G : j_G} {d B S N : Nat} {K : Nat → Option (Nat × Nat)} {M : Nat → Int → Int} {g : Nat → Int → Option Nat} {Q : j_O → j_S → Prop} {a0 : Nat} {x1 x2 x3 x4 x5 x6 x7 : Int}  (k1 : j_J G jm_Re_back d B S 97 [jr_ a0, ji_ x1, ji_ x2, ji_ x3, ji_ x4, ji_ x5, ji_ x6, ji_ x7] [ji_ x6] (N, K, M, g) Q) : j_J G jm_Re_back d B S 95 [jr_ a0, ji_ x1, ji_ x2, ji_ x3, ji_ x4, ji_ x5, ji_ x6, ji_ x7] [] (N, K, M, g) Q :=
  j_iload d_Re_back_95 rfl <| k1
theorem s_Re_back_97 {G : j_G} {d B S N : Nat} {K : Nat → Option (Nat × Nat)} {M : Nat → Int → Int} {g : Nat → Int → Option Nat} {Q : j_O → j_S → Prop} {a0 : Nat} {x1 x2 x3 x4 x5 x6 x7 t0 : Int} (r1 : -2147483648 ≤ x7 ∧ x7 ≤ 2147483647 := by omega) (k1 : x7 = 99 → j_J G jm_Re_back d B S 125 [jr_ a0, ji_ x1, ji_ x2, ji_ x3, ji_ x4, ji_ x5, ji_ t0, ji_ x7] [ji_ 99] (N, K, M, g) Q) (k2 : x7 ≠ 99 → j_J G jm_Re_back d B S 106 [jr_ a0, ji_ x1, ji_ x2, ji_ x3, ji_ x4, ji_ x5, ji_ t0, ji_ x7] [] (N, K, M, g) Q) : j_J G jm_Re_back d B S 97 [jr_ a0, ji_ x1, ji_ x2, ji_ x3, ji_ x4, ji_ x5, ji_ x6, ji_ x7] [ji_ t0] (N, K, M, g) Q :=
  j_istore d_Re_back_97 rfl rfl <| j_iload d_Re_back_99 rfl <| j_bipush d_Re_back_101 (by decide) <| j_icmp_eq d_Re_back_103 r1 (by decide) (fun h => j_bipush d_Re_back_118 (by decide) <| j_goto d_Re_back_120 <| k1 h) k2
theorem s_Re_back_106 {G : j_G} {d B S N : Nat} {K : Nat → Option (Nat × Nat)} {M : Nat → Int → Int} {g : Nat → Int → Option Nat} {Q : j_O → j_S → Prop} {a0 : Nat} {x1 x2 x3 x4 x5 x6 x7 : Int} (r1 : -2147483648 ≤ ((x7 - x5) + 1) ∧ ((x7 - x5) + 1) ≤ 2147483647 := by omega) (r2 : -2147483648 ≤ x4 ∧ x4 ≤ 2147483647 := by omega) (k1 : ((x7 - x5) + 1) ≤ x4 → j_J G jm_Re_back d B S 125 [jr_ a0, ji_ x1, ji_ x2, ji_ x3, ji_ x4, ji_ x5, ji_ x6, ji_ x7] [ji_ x7] (N, K, M, g) Q) (k2 : x4 < ((x7 - x5) + 1) → j_J G jm_Re_back d B S 125 [jr_ a0, ji_ x1, ji_ x2, ji_ x3, ji_ x4, ji_ x5, ji_ x6, ji_ x7] [ji_ 99] (N, K, M, g) Q) : j_J G jm_Re_back d B S 106 [jr_ a0, ji_ x1, ji_ x2, ji_ x3, ji_ x4, ji_ x5, ji_ x6, ji_ x7] [] (N, K, M, g) Q :=
  j_iload d_Re_back_106 rfl <| j_iload d_Re_back_108 rfl <| j_isub d_Re_back_110 <| j_iconst d_Re_back_111 <| j_iadd d_Re_back_112 <| j_iload d_Re_back_113 rfl <| j_icmp_le d_Re_back_115 r1 r2 (fun h => j_iload d_Re_back_123 rfl <| k1 h) (fun h => j_bipush d_Re_back_118 (by decide) <| j_goto d_Re_back_120 <| k2 h)
theorem s_Re_back_118 {G : j_G} {d B S N : Nat} {K : Nat → Option (Nat × Nat)} {M : Nat → Int → Int} {g : Nat → Int → Option Nat} {Q : j_O → j_S → Prop} {a0 : Nat} {x1 x2 x3 x4 x5 x6 x7 : Int}  (k1 : j_J G jm_Re_back d B S 125 [jr_ a0, ji_ x1, ji_ x2, ji_ x3, ji_ x4, ji_ x5, ji_ x6, ji_ x7] [ji_ 99] (N, K, M, g) Q) : j_J G jm_Re_back d B S 118 [jr_ a0, ji_ x1, ji_ x2, ji_ x3, ji_ x4, ji_ x5, ji_ x6, ji_ x7] [] (N, K, M, g) Q :=
  j_bipush d_Re_back_118 (by decide) <| j_goto d_Re_back_120 k1
theorem s_Re_back_123 {G : j_G} {d B S N : Nat} {K : Nat → Option (Nat × Nat)} {M : Nat → Int → Int} {g : Nat → Int → Option Nat} {Q : j_O → j_S → Prop} {a0 : Nat} {x1 x2 x3 x4 x5 x6 x7 : Int}  (k1 : j_J G jm_Re_back d B S 125 [jr_ a0, ji_ x1, ji_ x2, ji_ x3, ji_ x4, ji_ x5, ji_ x6, ji_ x7] [ji_ x7] (N, K, M, g) Q) : j_J G jm_Re_back d B S 123 [jr_ a0, ji_ x1, ji_ x2, ji_ x3, ji_ x4, ji_ x5, ji_ x6, ji_ x7] [] (N, K, M, g) Q :=
  j_iload d_Re_back_123 rfl <| k1
theorem s_Re_back_125 {G : j_G} {d B S N : Nat} {K : Nat → Option (Nat × Nat)} {M : Nat → Int → Int} {g : Nat → Int → Option Nat} {Q : j_O → j_S → Prop} {a0 : Nat} {x1 x2 x3 x4 x5 x6 x7 t0 : Int} {q : Int → (Nat → Int → Int) → Prop} (hC : j_Ct G jm_Ma_min d 0 0 [ji_ x6, ji_ t0] (N, K, M, g) (j_pI N K g q)) (k1 : ∀ z M', q z M' → j_J G jm_Re_back (d + 1) B S 134 [jr_ a0, ji_ x1, ji_ x2, ji_ x3, ji_ x4, ji_ x5, ji_ x6, ji_ t0] [ji_ z] (N, K, M', g) Q) : j_J G jm_Re_back (d + 1) B S 125 [jr_ a0, ji_ x1, ji_ x2, ji_ x3, ji_ x4, ji_ x5, ji_ x6, ji_ x7] [ji_ t0] (N, K, M, g) Q :=
  j_istore d_Re_back_125 rfl rfl <| j_iload d_Re_back_127 rfl <| j_iload d_Re_back_129 rfl <| j_aSI (as := [ji_ x6, ji_ t0]) (rest := []) d_Re_back_131 c_Re_27 rfl (Nat.le_of_ble_eq_true rfl) hC k1
theorem s_Re_back_134 {G : j_G} {d B S N : Nat} {K : Nat → Option (Nat × Nat)} {M : Nat → Int → Int} {g : Nat → Int → Option Nat} {Q : j_O → j_S → Prop} {a0 : Nat} {x1 x2 x3 x4 x5 x6 x7 t0 : Int}  (k1 : Q (.inl (some (ji_ t0))) (N, K, M, g)) : j_J G jm_Re_back d B S 134 [jr_ a0, ji_ x1, ji_ x2, ji_ x3, ji_ x4, ji_ x5, ji_ x6, ji_ x7] [ji_ t0] (N, K, M, g) Q :=
  j_ireturn d_Re_back_134 rfl k1
theorem s_Re_fill_0 {G : j_G} {d B S N : Nat} {K : Nat → Option (Nat × Nat)} {M : Nat → Int → Int} {g : Nat → Int → Option Nat} {Q : j_O → j_S → Prop} {a0 a1 : Nat} {x2 x3 x4 x5 : Int} {u6 u7 u8 u9 u10 : j_V}  (k1 : j_J G jm_Re_fill d B S 6 [jr_ a0, jr_ a1, ji_ x2, ji_ x3, ji_ x4, ji_ x5, ji_ 0, ji_ 0, u8, u9, u10] [] (N, K, M, g) Q) : j_J G jm_Re_fill d B S 0 [jr_ a0, jr_ a1, ji_ x2, ji_ x3, ji_ x4, ji_ x5, u6, u7, u8, u9, u10] [] (N, K, M, g) Q :=
  j_iconst d_Re_fill_0 <| j_istore d_Re_fill_1 rfl rfl <| j_iconst d_Re_fill_3 <| j_istore d_Re_fill_4 rfl rfl <| k1
theorem s_Re_fill_6 {G : j_G} {d B S N : Nat} {K : Nat → Option (Nat × Nat)} {M : Nat → Int → Int} {g : Nat → Int → Option Nat} {Q : j_O → j_S → Prop} {a0 a1 : Nat} {x2 x3 x4 x5 x6 x7 : Int} {u8 u9 u10 : j_V} (r1 : -2147483648 ≤ x7 ∧ x7 ≤ 2147483647 := by omega) (k1 : x7 ≠ 0 → Q (.inl none) (N, K, M, g)) (k2 : x7 = 0 → j_J G jm_Re_fill d B S 11 [jr_ a0, jr_ a1, ji_ x2, ji_ x3, ji_ x4, ji_ x5, ji_ x6, ji_ x7, u8, u9, u10] [] (N, K, M, g) Q) : j_J G jm_Re_fill d B S 6 [jr_ a0, jr_ a1, ji_ x2, ji_ x3, ji_ x4, ji_ x5, ji_ x6, ji_ x7, u8, u9, u10] [] (N, K, M, g) Q :=
  j_iload d_Re_fill_6 rfl <| j_if_ne d_Re_fill_8 r1 (fun h => j_vreturn d_Re_fill_152 rfl <| k1 h) k2
theorem s_Re_fill_11 {G : j_G} {d B S N : Nat} {K : Nat → Option (Nat × Nat)} {M : Nat → Int → Int} {g : Nat → Int → Option Nat} {Q : j_O → j_S → Prop} {a0 a1 : Nat} {x2 x3 x4 x5 x6 x7 : Int} {u8 u9 u10 : j_V}  (k1 : j_J G jm_Re_fill d B S 16 [jr_ a0, jr_ a1, ji_ x2, ji_ x3, ji_ x4, ji_ x5, ji_ x6, ji_ x7, ji_ (-x6), u9, u10] [] (N, K, M, g) Q) : j_J G jm_Re_fill d B S 11 [jr_ a0, jr_ a1, ji_ x2, ji_ x3, ji_ x4, ji_ x5, ji_ x6, ji_ x7, u8, u9, u10] [] (N, K, M, g) Q :=
  j_iload d_Re_fill_11 rfl <| j_ineg d_Re_fill_13 <| j_istore d_Re_fill_14 rfl rfl <| k1
theorem s_Re_fill_16 {G : j_G} {d B S N : Nat} {K : Nat → Option (Nat × Nat)} {M : Nat → Int → Int} {g : Nat → Int → Option Nat} {Q : j_O → j_S → Prop} {a0 a1 : Nat} {x2 x3 x4 x5 x6 x7 x8 : Int} {u9 u10 : j_V} (r1 : -2147483648 ≤ x8 ∧ x8 ≤ 2147483647 := by omega) (r2 : -2147483648 ≤ x6 ∧ x6 ≤ 2147483647 := by omega) (k1 : x6 < x8 → j_J G jm_Re_fill d B S 6 [jr_ a0, jr_ a1, ji_ x2, ji_ x3, ji_ x4, ji_ x5, ji_ (x6 + 1), ji_ x7, ji_ x8, u9, u10] [] (N, K, M, g) Q) (k2 : x8 ≤ x6 → j_J G jm_Re_fill d B S 23 [jr_ a0, jr_ a1, ji_ x2, ji_ x3, ji_ x4, ji_ x5, ji_ x6, ji_ x7, ji_ x8, u9, u10] [] (N, K, M, g) Q) : j_J G jm_Re_fill d B S 16 [jr_ a0, jr_ a1, ji_ x2, ji_ x3, ji_ x4, ji_ x5, ji_ x6, ji_ x7, ji_ x8, u9, u10] [] (N, K, M, g) Q :=
  j_iload d_Re_fill_16 rfl <| j_iload d_Re_fill_18 rfl <| j_icmp_gt d_Re_fill_20 r1 r2 (fun h => j_iinc d_Re_fill_146 rfl rfl rfl <| j_goto d_Re_fill_149 <| k1 h) k2
theorem s_Re_fill_23 {G : j_G} {d B S N : Nat} {K : Nat → Option (Nat × Nat)} {M : Nat → Int → Int} {g : Nat → Int → Option Nat} {Q : j_O → j_S → Prop} {a0 a1 : Nat} {x2 x3 x4 x5 x6 x7 x8 : Int} {u9 u10 : j_V} (r1 : -2147483648 ≤ x6 ∧ x6 ≤ 2147483647 := by omega) (k1 : x6 ≠ 0 → j_J G jm_Re_fill d B S 41 [jr_ a0, jr_ a1, ji_ x2, ji_ x3, ji_ x4, ji_ x5, ji_ x6, ji_ x7, ji_ x8, ji_ ((x3 - x5) + x8), u10] [] (N, K, M, g) Q) (k2 : x6 = 0 → j_J G jm_Re_fill d B S 56 [jr_ a0, jr_ a1, ji_ x2, ji_ x3, ji_ x4, ji_ x5, ji_ x6, ji_ x7, ji_ x8, ji_ ((x3 - x5) + x8), ji_ x3] [] (N, K, M, g) Q) : j_J G jm_Re_fill d B S 23 [jr_ a0, jr_ a1, ji_ x2, ji_ x3, ji_ x4, ji_ x5, ji_ x6, ji_ x7, ji_ x8, u9, u10] [] (N, K, M, g) Q :=
  j_iload_n d_Re_fill_23 rfl <| j_iload d_Re_fill_24 rfl <| j_isub d_Re_fill_26 <| j_iload d_Re_fill_27 rfl <| j_iadd d_Re_fill_29 <| j_istore d_Re_fill_30 rfl rfl <| j_iload d_Re_fill_32 rfl <| j_if_ne d_Re_fill_34 r1 k1 (fun h => j_iload_n d_Re_fill_37 rfl <| j_goto d_Re_fill_38 <| j_istore d_Re_fill_54 rfl rfl <| k2 h)
theorem s_Re_fill_37 {G : j_G} {d B S N : Nat} {K : Nat → Option (Nat × Nat)} {M : Nat → Int → Int} {g : Nat → Int → Option Nat} {Q : j_O → j_S → Prop} {a0 a1 : Nat} {x2 x3 x4 x5 x6 x7 x8 x9 : Int} {u10 : j_V}  (k1 : j_J G jm_Re_fill d B S 56 [jr_ a0, jr_ a1, ji_ x2, ji_ x3, ji_ x4, ji_ x5, ji_ x6, ji_ x7, ji_ x8, ji_ x9, ji_ x3] [] (N, K, M, g) Q) : j_J G jm_Re_fill d B S 37 [jr_ a0, jr_ a1, ji_ x2, ji_ x3, ji_ x4, ji_ x5, ji_ x6, ji_ x7, ji_ x8, ji_ x9, u10] [] (N, K, M, g) Q :=
  j_iload_n d_Re_fill_37 rfl <| j_goto d_Re_fill_38 (j_istore d_Re_fill_54 rfl rfl <| k1)
theorem s_Re_fill_41 {G : j_G} {d B S N : Nat} {K : Nat → Option (Nat × Nat)} {M : Nat → Int → Int} {g : Nat → Int → Option Nat} {Q : j_O → j_S → Prop} {a0 a1 : Nat} {x2 x3 x4 x5 x6 x7 x8 x9 : Int} {u10 : j_V} {q : Int → (Nat → Int → Int) → Prop} (hk1 : K a0 = some (0, 3)) (hC : j_Ct G jm_Re_back d 0 0 [jr_ a0, ji_ (x6 - 1), ji_ x8, ji_ x3, ji_ x5] (N, K, M, g) (j_pI N K g q)) (k1 : ∀ z M', q z M' → j_J G jm_Re_fill (d + 1) B S 54 [jr_ a0, jr_ a1, ji_ x2, ji_ x3, ji_ x4, ji_ x5, ji_ x6, ji_ x7, ji_ x8, ji_ x9, u10] [ji_ z] (N, K, M', g) Q) : j_J G jm_Re_fill (d + 1) B S 41 [jr_ a0, jr_ a1, ji_ x2, ji_ x3, ji_ x4, ji_ x5, ji_ x6, ji_ x7, ji_ x8, ji_ x9, u10] [] (N, K, M, g) Q :=
  j_aload_n d_Re_fill_41 rfl <| j_iload d_Re_fill_42 rfl <| j_iconst d_Re_fill_44 <| j_isub d_Re_fill_45 <| j_iload d_Re_fill_46 rfl <| j_iload_n d_Re_fill_48 rfl <| j_iload d_Re_fill_49 rfl <| j_aVI (as := [ji_ (x6 - 1), ji_ x8, ji_ x3, ji_ x5]) (rest := []) d_Re_fill_51 c_Re_30 hk1 rfl (Nat.le_of_ble_eq_true rfl) hC k1
theorem s_Re_fill_54 {G : j_G} {d B S N : Nat} {K : Nat → Option (Nat × Nat)} {M : Nat → Int → Int} {g : Nat → Int → Option Nat} {Q : j_O → j_S → Prop} {a0 a1 : Nat} {x2 x3 x4 x5 x6 x7 x8 x9 t0 : Int} {u10 : j_V}  (k1 : j_J G jm_Re_fill d B S 56 [jr_ a0, jr_ a1, ji_ x2, ji_ x3, ji_ x4, ji_ x5, ji_ x6, ji_ x7, ji_ x8, ji_ x9, ji_ t0] [] (N, K, M, g) Q) : j_J G jm_Re_fill d B S 54 [jr_ a0, jr_ a1, ji_ x2, ji_ x3, ji_ x4, ji_ x5, ji_ x6, ji_ x7, ji_ x8, ji_ x9, u10] [ji_ t0] (N, K, M, g) Q :=
  j_istore d_Re_fill_54 rfl rfl <| k1
theorem s_Re_fill_56 {G : j_G} {d B S N : Nat} {K : Nat → Option (Nat × Nat)} {M : Nat → Int → Int} {g : Nat → Int → Option Nat} {Q : j_O → j_S → Prop} {a0 a1 : Nat} {x2 x3 x4 x5 x6 x7 x8 x9 x10 : Int} (r1 : -2147483648 ≤ x10 ∧ x10 ≤ 2147483647 := by omega) (k1 : x10 = 99 → j_J G jm_Re_fill d B S 105 [jr_ a0, jr_ a1, ji_ x2, ji_ x3, ji_ x4, ji_ x5, ji_ x6, ji_ x7, ji_ x8, ji_ x9, ji_ x10] [] (N, K, M, g) Q) (k2 : x10 ≠ 99 → j_J G jm_Re_fill d B S 63 [jr_ a0, jr_ a1, ji_ x2, ji_ x3, ji_ x4, ji_ x5, ji_ x6, ji_ x7, ji_ x8, ji_ x9, ji_ x10] [] (N, K, M, g) Q) : j_J G jm_Re_fill d B S 56 [jr_ a0, jr_ a1, ji_ x2, ji_ x3, ji_ x4, ji_ x5, ji_ x6, ji_ x7, ji_ x8, ji_ x9, ji_ x10] [] (N, K, M, g) Q :=
  j_iload d_Re_fill_56 rfl <| j_bipush d_Re_fill_58 (by decide) <| j_icmp_eq d_Re_fill_60 r1 (by decide) k1 k2
theorem s_Re_fill_63 {G : j_G} {d B S N : Nat} {K : Nat → Option (Nat × Nat)} {M : Nat → Int → Int} {g : Nat → Int → Option Nat} {Q : j_O → j_S → Prop} {a0 a1 : Nat} {x2 x3 x4 x5 x6 x7 x8 x9 x10 : Int} (r1 : -2147483648 ≤ x10 ∧ x10 ≤ 2147483647 := by omega) (k1 : x10 ≤ 0 → j_J G jm_Re_fill d B S 105 [jr_ a0, jr_ a1, ji_ x2, ji_ x3, ji_ x4, ji_ x5, ji_ x6, ji_ x7, ji_ x8, ji_ x9, ji_ x10] [] (N, K, M, g) Q) (k2 : 0 < x10 → j_J G jm_Re_fill d B S 68 [jr_ a0, jr_ a1, ji_ x2, ji_ x3, ji_ x4, ji_ x5, ji_ x6, ji_ x7, ji_ x8, ji_ x9, ji_ x10] [] (N, K, M, g) Q) : j_J G jm_Re_fill d B S 63 [jr_ a0, jr_ a1, ji_ x2, ji_ x3, ji_ x4, ji_ x5, ji_ x6, ji_ x7, ji_ x8, ji_ x9, ji_ x10] [] (N, K, M, g) Q :=
  j_iload d_Re_fill_63 rfl <| j_if_le d_Re_fill_65 r1 k1 k2
theorem s_Re_fill_68 {G : j_G} {d B S N : Nat} {K : Nat → Option (Nat × Nat)} {M : Nat → Int → Int} {g : Nat → Int → Option Nat} {Q : j_O → j_S → Prop} {a0 a1 : Nat} {x2 x3 x4 x5 x6 x7 x8 x9 x10 : Int} (r1 : -2147483648 ≤ (x10 - x9) ∧ (x10 - x9) ≤ 2147483647 := by omega) (k1 : (x10 - x9) ≤ 0 → j_J G jm_Re_fill d B S 105 [jr_ a0, jr_ a1, ji_ x2, ji_ x3, ji_ x4, ji_ x5, ji_ x6, ji_ x7, ji_ x8, ji_ x9, ji_ x10] [] (N, K, M, g) Q) (k2 : 0 < (x10 - x9) → j_J G jm_Re_fill d B S 76 [jr_ a0, jr_ a1, ji_ x2, ji_ x3, ji_ x4, ji_ x5, ji_ x6, ji_ x7, ji_ x8, ji_ x9, ji_ x10] [] (N, K, M, g) Q) : j_J G jm_Re_fill d B S 68 [jr_ a0, jr_ a1, ji_ x2, ji_ x3, ji_ x4, ji_ x5, ji_ x6, ji_ x7, ji_ x8, ji_ x9, ji_ x10] [] (N, K, M, g) Q :=
  j_iload d_Re_fill_68 rfl <| j_iload d_Re_fill_70 rfl <| j_isub d_Re_fill_72 <| j_if_le d_Re_fill_73 r1 k1 k2
theorem s_Re_fill_76 {G : j_G} {d B S N : Nat} {K : Nat → Option (Nat × Nat)} {M : Nat → Int → Int} {g : Nat → Int → Option Nat} {Q : j_O → j_S → Prop} {a0 a1 : Nat} {x2 x3 x4 x5 x6 x7 x8 x9 x10 : Int} {q : Int → (Nat → Int → Int) → Prop} (hk1 : K a1 = some (0, 2)) (hC : j_Ct G jm_Pr_equal d 0 0 [jr_ a1, ji_ ((x2 + x10) - 1), ji_ (((x4 + x10) - x9) - 1)] (N, K, M, g) (j_pI N K g q)) (k1 : ∀ z M', q z M' → j_J G jm_Re_fill (d + 1) B S 96 [jr_ a0, jr_ a1, ji_ x2, ji_ x3, ji_ x4, ji_ x5, ji_ x6, ji_ x7, ji_ x8, ji_ x9, ji_ x10] [ji_ z] (N, K, M', g) Q) : j_J G jm_Re_fill (d + 1) B S 76 [jr_ a0, jr_ a1, ji_ x2, ji_ x3, ji_ x4, ji_ x5, ji_ x6, ji_ x7, ji_ x8, ji_ x9, ji_ x10] [] (N, K, M, g) Q :=
  j_aload_n d_Re_fill_76 rfl <| j_iload_n d_Re_fill_77 rfl <| j_iload d_Re_fill_78 rfl <| j_iadd d_Re_fill_80 <| j_iconst d_Re_fill_81 <| j_isub d_Re_fill_82 <| j_iload d_Re_fill_83 rfl <| j_iload d_Re_fill_85 rfl <| j_iadd d_Re_fill_87 <| j_iload d_Re_fill_88 rfl <| j_isub d_Re_fill_90 <| j_iconst d_Re_fill_91 <| j_isub d_Re_fill_92 <| j_aVI (as := [ji_ ((x2 + x10) - 1), ji_ (((x4 + x10) - x9) - 1)]) (rest := []) d_Re_fill_93 c_Re_34 hk1 rfl (Nat.le_of_ble_eq_true rfl) hC k1
theorem s_Re_fill_96 {G : j_G} {d B S N : Nat} {K : Nat → Option (Nat × Nat)} {M : Nat → Int → Int} {g : Nat → Int → Option Nat} {Q : j_O → j_S → Prop} {a0 a1 : Nat} {x2 x3 x4 x5 x6 x7 x8 x9 x10 t0 : Int} (r1 : -2147483648 ≤ t0 ∧ t0 ≤ 2147483647 := by omega) (k1 : t0 = 0 → j_J G jm_Re_fill d B S 105 [jr_ a0, jr_ a1, ji_ x2, ji_ x3, ji_ x4, ji_ x5, ji_ x6, ji_ x7, ji_ x8, ji_ x9, ji_ x10] [] (N, K, M, g) Q) (k2 : t0 ≠ 0 → j_J G jm_Re_fill d B S 56 [jr_ a0, jr_ a1, ji_ x2, ji_ x3, ji_ x4, ji_ x5, ji_ x6, ji_ x7, ji_ x8, ji_ x9, ji_ (x10 + (-1))] [] (N, K, M, g) Q) : j_J G jm_Re_fill d B S 96 [jr_ a0, jr_ a1, ji_ x2, ji_ x3, ji_ x4, ji_ x5, ji_ x6, ji_ x7, ji_ x8, ji_ x9, ji_ x10] [ji_ t0] (N, K, M, g) Q :=
  j_if_eq d_Re_fill_96 r1 k1 (fun h => j_iinc d_Re_fill_99 rfl rfl rfl <| j_goto d_Re_fill_102 <| k2 h)
theorem s_Re_fill_99 {G : j_G} {d B S N : Nat} {K : Nat → Option (Nat × Nat)} {M : Nat → Int → Int} {g : Nat → Int → Option Nat} {Q : j_O → j_S → Prop} {a0 a1 : Nat} {x2 x3 x4 x5 x6 x7 x8 x9 x10 : Int}  (k1 : j_J G jm_Re_fill d B S 56 [jr_ a0, jr_ a1, ji_ x2, ji_ x3, ji_ x4, ji_ x5, ji_ x6, ji_ x7, ji_ x8, ji_ x9, ji_ (x10 + (-1))] [] (N, K, M, g) Q) : j_J G jm_Re_fill d B S 99 [jr_ a0, jr_ a1, ji_ x2, ji_ x3, ji_ x4, ji_ x5, ji_ x6, ji_ x7, ji_ x8, ji_ x9, ji_ x10] [] (N, K, M, g) Q :=
  j_iinc d_Re_fill_99 rfl rfl rfl <| j_goto d_Re_fill_102 k1
theorem s_Re_fill_105 {G : j_G} {d B S N : Nat} {K : Nat → Option (Nat × Nat)} {M : Nat → Int → Int} {g : Nat → Int → Option Nat} {Q : j_O → j_S → Prop} {a0 a1 y1 : Nat} {x2 x3 x4 x5 x6 x7 x8 x9 x10 : Int} {q : Int → (Nat → Int → Int) → Prop} (hk1 : K a0 = some (0, 3)) (hg2 : g a0 0 = some y1) (hC : j_Ct G jm_Re_cell d 0 0 [ji_ x6, ji_ x8] (N, K, M, g) (j_pI N K g q)) (k1 : ∀ z M', q z M' → j_J G jm_Re_fill (d + 1) B S 116 [jr_ a0, jr_ a1, ji_ x2, ji_ x3, ji_ x4, ji_ x5, ji_ x6, ji_ x7, ji_ x8, ji_ x9, ji_ x10] [ji_ z, jr_ y1] (N, K, M', g) Q) : j_J G jm_Re_fill (d + 1) B S 105 [jr_ a0, jr_ a1, ji_ x2, ji_ x3, ji_ x4, ji_ x5, ji_ x6, ji_ x7, ji_ x8, ji_ x9, ji_ x10] [] (N, K, M, g) Q :=
  j_aload_n d_Re_fill_105 rfl <| j_getR d_Re_fill_106 f_Re_9 hk1 hg2 <| j_iload d_Re_fill_109 rfl <| j_iload d_Re_fill_111 rfl <| j_aSI (as := [ji_ x6, ji_ x8]) (rest := [jr_ y1]) d_Re_fill_113 c_Re_15 rfl (Nat.le_of_ble_eq_true rfl) hC k1
theorem s_Re_fill_116 {G : j_G} {d B S N : Nat} {K : Nat → Option (Nat × Nat)} {M : Nat → Int → Int} {g : Nat → Int → Option Nat} {Q : j_O → j_S → Prop} {a0 a1 b0 n1 : Nat} {x2 x3 x4 x5 x6 x7 x8 x9 x10 t1 : Int} (hk1 : K b0 = some (2, n1)) (r1 : 0 ≤ t1 := by omega) (r1' : t1 < (n1 : Int) := by omega) (r2 : -128 ≤ (Int.bmod x10 256) ∧ (Int.bmod x10 256) ≤ 127 := by omega) (r3 : -2147483648 ≤ x9 ∧ x9 ≤ 2147483647 := by omega) (k1 : x9 ≠ 0 → j_J G jm_Re_fill d B S 137 [jr_ a0, jr_ a1, ji_ x2, ji_ x3, ji_ x4, ji_ x5, ji_ x6, ji_ x7, ji_ x8, ji_ x9, ji_ x10] [ji_ 0, ji_ x7] (N, K, (j_up M b0 t1 (Int.bmod x10 256)), g) Q) (k2 : x9 = 0 → j_J G jm_Re_fill d B S 127 [jr_ a0, jr_ a1, ji_ x2, ji_ x3, ji_ x4, ji_ x5, ji_ x6, ji_ x7, ji_ x8, ji_ x9, ji_ x10] [ji_ x7] (N, K, (j_up M b0 t1 (Int.bmod x10 256)), g) Q) : j_J G jm_Re_fill d B S 116 [jr_ a0, jr_ a1, ji_ x2, ji_ x3, ji_ x4, ji_ x5, ji_ x6, ji_ x7, ji_ x8, ji_ x9, ji_ x10] [ji_ t1, jr_ b0] (N, K, M, g) Q :=
  j_iload d_Re_fill_116 rfl <| j_i2b d_Re_fill_118 <| j_bast d_Re_fill_119 hk1 r1 r1' r2 <| j_iload d_Re_fill_120 rfl <| j_iload d_Re_fill_122 rfl <| j_if_ne d_Re_fill_124 r3 (fun h => j_iconst d_Re_fill_136 <| k1 h) k2
theorem s_Re_fill_127 {G : j_G} {d B S N : Nat} {K : Nat → Option (Nat × Nat)} {M : Nat → Int → Int} {g : Nat → Int → Option Nat} {Q : j_O → j_S → Prop} {a0 a1 : Nat} {x2 x3 x4 x5 x6 x7 x8 x9 x10 t0 : Int} (r1 : -2147483648 ≤ x10 ∧ x10 ≤ 2147483647 := by omega) (k1 : x10 ≠ 0 → j_J G jm_Re_fill d B S 137 [jr_ a0, jr_ a1, ji_ x2, ji_ x3, ji_ x4, ji_ x5, ji_ x6, ji_ x7, ji_ x8, ji_ x9, ji_ x10] [ji_ 0, ji_ t0] (N, K, M, g) Q) (k2 : x10 = 0 → j_J G jm_Re_fill d B S 137 [jr_ a0, jr_ a1, ji_ x2, ji_ x3, ji_ x4, ji_ x5, ji_ x6, ji_ x7, ji_ x8, ji_ x9, ji_ x10] [ji_ 1, ji_ t0] (N, K, M, g) Q) : j_J G jm_Re_fill d B S 127 [jr_ a0, jr_ a1, ji_ x2, ji_ x3, ji_ x4, ji_ x5, ji_ x6, ji_ x7, ji_ x8, ji_ x9, ji_ x10] [ji_ t0] (N, K, M, g) Q :=
  j_iload d_Re_fill_127 rfl <| j_if_ne d_Re_fill_129 r1 (fun h => j_iconst d_Re_fill_136 <| k1 h) (fun h => j_iconst d_Re_fill_132 <| j_goto d_Re_fill_133 <| k2 h)
theorem s_Re_fill_132 {G : j_G} {d B S N : Nat} {K : Nat → Option (Nat × Nat)} {M : Nat → Int → Int} {g : Nat → Int → Option Nat} {Q : j_O → j_S → Prop} {a0 a1 : Nat} {x2 x3 x4 x5 x6 x7 x8 x9 x10 t0 : Int}  (k1 : j_J G jm_Re_fill d B S 137 [jr_ a0, jr_ a1, ji_ x2, ji_ x3, ji_ x4, ji_ x5, ji_ x6, ji_ x7, ji_ x8, ji_ x9, ji_ x10] [ji_ 1, ji_ t0] (N, K, M, g) Q) : j_J G jm_Re_fill d B S 132 [jr_ a0, jr_ a1, ji_ x2, ji_ x3, ji_ x4, ji_ x5, ji_ x6, ji_ x7, ji_ x8, ji_ x9, ji_ x10] [ji_ t0] (N, K, M, g) Q :=
  j_iconst d_Re_fill_132 <| j_goto d_Re_fill_133 k1
theorem s_Re_fill_136 {G : j_G} {d B S N : Nat} {K : Nat → Option (Nat × Nat)} {M : Nat → Int → Int} {g : Nat → Int → Option Nat} {Q : j_O → j_S → Prop} {a0 a1 : Nat} {x2 x3 x4 x5 x6 x7 x8 x9 x10 t0 : Int}  (k1 : j_J G jm_Re_fill d B S 137 [jr_ a0, jr_ a1, ji_ x2, ji_ x3, ji_ x4, ji_ x5, ji_ x6, ji_ x7, ji_ x8, ji_ x9, ji_ x10] [ji_ 0, ji_ t0] (N, K, M, g) Q) : j_J G jm_Re_fill d B S 136 [jr_ a0, jr_ a1, ji_ x2, ji_ x3, ji_ x4, ji_ x5, ji_ x6, ji_ x7, ji_ x8, ji_ x9, ji_ x10] [ji_ t0] (N, K, M, g) Q :=
  j_iconst d_Re_fill_136 <| k1
theorem s_Re_fill_137 {G : j_G} {d B S N : Nat} {K : Nat → Option (Nat × Nat)} {M : Nat → Int → Int} {g : Nat → Int → Option Nat} {Q : j_O → j_S → Prop} {a0 a1 : Nat} {x2 x3 x4 x5 x6 x7 x8 x9 x10 t0 t1 : Int} {c0 c1 : Bool} (he1 : t0 = j_bz c0) (he2 : t1 = j_bz c1) (k1 : j_J G jm_Re_fill d B S 16 [jr_ a0, jr_ a1, ji_ x2, ji_ x3, ji_ x4, ji_ x5, ji_ x6, ji_ (j_bz (c0 || c1)), ji_ (x8 + 2), ji_ x9, ji_ x10] [] (N, K, M, g) Q) : j_J G jm_Re_fill d B S 137 [jr_ a0, jr_ a1, ji_ x2, ji_ x3, ji_ x4, ji_ x5, ji_ x6, ji_ x7, ji_ x8, ji_ x9, ji_ x10] [ji_ t1, ji_ t0] (N, K, M, g) Q :=
  j_iorB' d_Re_fill_137 he1 he2 <| j_istore d_Re_fill_138 rfl rfl <| j_iinc d_Re_fill_140 rfl rfl rfl <| j_goto d_Re_fill_143 k1
theorem s_Re_fill_146 {G : j_G} {d B S N : Nat} {K : Nat → Option (Nat × Nat)} {M : Nat → Int → Int} {g : Nat → Int → Option Nat} {Q : j_O → j_S → Prop} {a0 a1 : Nat} {x2 x3 x4 x5 x6 x7 x8 : Int} {u9 u10 : j_V}  (k1 : j_J G jm_Re_fill d B S 6 [jr_ a0, jr_ a1, ji_ x2, ji_ x3, ji_ x4, ji_ x5, ji_ (x6 + 1), ji_ x7, ji_ x8, u9, u10] [] (N, K, M, g) Q) : j_J G jm_Re_fill d B S 146 [jr_ a0, jr_ a1, ji_ x2, ji_ x3, ji_ x4, ji_ x5, ji_ x6, ji_ x7, ji_ x8, u9, u10] [] (N, K, M, g) Q :=
  j_iinc d_Re_fill_146 rfl rfl rfl <| j_goto d_Re_fill_149 k1
theorem s_Re_fill_152 {G : j_G} {d B S N : Nat} {K : Nat → Option (Nat × Nat)} {M : Nat → Int → Int} {g : Nat → Int → Option Nat} {Q : j_O → j_S → Prop} {a0 a1 : Nat} {x2 x3 x4 x5 x6 x7 : Int} {u8 u9 u10 : j_V}  (k1 : Q (.inl none) (N, K, M, g)) : j_J G jm_Re_fill d B S 152 [jr_ a0, jr_ a1, ji_ x2, ji_ x3, ji_ x4, ji_ x5, ji_ x6, ji_ x7, u8, u9, u10] [] (N, K, M, g) Q :=
  j_vreturn d_Re_fill_152 rfl k1
theorem s_Re_reaches_0 {G : j_G} {d B S N : Nat} {K : Nat → Option (Nat × Nat)} {M : Nat → Int → Int} {g : Nat → Int → Option Nat} {Q : j_O → j_S → Prop} {a0 : Nat} {x1 x2 x3 x4 x5 : Int} {q : Int → (Nat → Int → Int) → Prop} (hk1 : K a0 = some (0, 3)) (hC : j_Ct G jm_Re_get d 0 0 [jr_ a0, ji_ x1, ji_ (((x2 - x3) - x4) + x5)] (N, K, M, g) (j_pI N K g q)) (k1 : ∀ z M', q z M' → j_J G jm_Re_reaches (d + 1) B S 14 [jr_ a0, ji_ x1, ji_ x2, ji_ x3, ji_ x4, ji_ x5] [ji_ z] (N, K, M', g) Q) : j_J G jm_Re_reaches (d + 1) B S 0 [jr_ a0, ji_ x1, ji_ x2, ji_ x3, ji_ x4, ji_ x5] [] (N, K, M, g) Q :=
  j_aload_n d_Re_reaches_0 rfl <| j_iload_n d_Re_reaches_1 rfl <| j_iload_n d_Re_reaches_2 rfl <| j_iload_n d_Re_reaches_3 rfl <| j_isub d_Re_reaches_4 <| j_iload d_Re_reaches_5 rfl <| j_isub d_Re_reaches_7 <| j_iload d_Re_reaches_8 rfl <| j_iadd d_Re_reaches_10 <| j_aVI (as := [ji_ x1, ji_ (((x2 - x3) - x4) + x5)]) (rest := []) d_Re_reaches_11 c_Re_19 hk1 rfl (Nat.le_of_ble_eq_true rfl) hC k1
theorem s_Re_reaches_14 {G : j_G} {d B S N : Nat} {K : Nat → Option (Nat × Nat)} {M : Nat → Int → Int} {g : Nat → Int → Option Nat} {Q : j_O → j_S → Prop} {a0 : Nat} {x1 x2 x3 x4 x5 t0 : Int} (r1 : -2147483648 ≤ t0 ∧ t0 ≤ 2147483647 := by omega) (r2 : -2147483648 ≤ x2 ∧ x2 ≤ 2147483647 := by omega) (k1 : x2 < t0 → Q (.inl (some (ji_ 0))) (N, K, M, g)) (k2 : t0 ≤ x2 → Q (.inl (some (ji_ 1))) (N, K, M, g)) : j_J G jm_Re_reaches d B S 14 [jr_ a0, ji_ x1, ji_ x2, ji_ x3, ji_ x4, ji_ x5] [ji_ t0] (N, K, M, g) Q :=
  j_iload_n d_Re_reaches_14 rfl <| j_icmp_gt d_Re_reaches_15 r1 r2 (fun h => j_iconst d_Re_reaches_22 <| j_zreturn' d_Re_reaches_23 rfl (Or.inl rfl) <| k1 h) (fun h => j_iconst d_Re_reaches_18 <| j_goto d_Re_reaches_19 <| j_zreturn' d_Re_reaches_23 rfl (Or.inr rfl) <| k2 h)
theorem s_Re_reaches_18 {G : j_G} {d B S N : Nat} {K : Nat → Option (Nat × Nat)} {M : Nat → Int → Int} {g : Nat → Int → Option Nat} {Q : j_O → j_S → Prop} {a0 : Nat} {x1 x2 x3 x4 x5 : Int}  (k1 : Q (.inl (some (ji_ 1))) (N, K, M, g)) : j_J G jm_Re_reaches d B S 18 [jr_ a0, ji_ x1, ji_ x2, ji_ x3, ji_ x4, ji_ x5] [] (N, K, M, g) Q :=
  j_iconst d_Re_reaches_18 <| j_goto d_Re_reaches_19 (j_zreturn' d_Re_reaches_23 rfl (Or.inr rfl) <| k1)
theorem s_Re_reaches_22 {G : j_G} {d B S N : Nat} {K : Nat → Option (Nat × Nat)} {M : Nat → Int → Int} {g : Nat → Int → Option Nat} {Q : j_O → j_S → Prop} {a0 : Nat} {x1 x2 x3 x4 x5 : Int}  (k1 : Q (.inl (some (ji_ 0))) (N, K, M, g)) : j_J G jm_Re_reaches d B S 22 [jr_ a0, ji_ x1, ji_ x2, ji_ x3, ji_ x4, ji_ x5] [] (N, K, M, g) Q :=
  j_iconst d_Re_reaches_22 <| (j_zreturn' d_Re_reaches_23 rfl (Or.inl rfl) <| k1)
theorem s_Re_reaches_23 {G : j_G} {d B S N : Nat} {K : Nat → Option (Nat × Nat)} {M : Nat → Int → Int} {g : Nat → Int → Option Nat} {Q : j_O → j_S → Prop} {a0 : Nat} {x1 x2 x3 x4 x5 t0 : Int} (hz1 : t0 = 0 ∨ t0 = 1) (k1 : Q (.inl (some (ji_ t0))) (N, K, M, g)) : j_J G jm_Re_reaches d B S 23 [jr_ a0, ji_ x1, ji_ x2, ji_ x3, ji_ x4, ji_ x5] [ji_ t0] (N, K, M, g) Q :=
  j_zreturn' d_Re_reaches_23 rfl hz1 k1
theorem s_Re_run_0 {G : j_G} {d B S N : Nat} {K : Nat → Option (Nat × Nat)} {M : Nat → Int → Int} {g : Nat → Int → Option Nat} {Q : j_O → j_S → Prop} {a0 a1 : Nat} {x2 x3 x4 x5 : Int} {u6 u7 u8 u9 u10 u11 : j_V} {q : (Nat → Int → Int) → Prop} (hk1 : K a0 = some (0, 3)) (hC : j_Ct G jm_Re_fill d 0 0 [jr_ a0, jr_ a1, ji_ x2, ji_ (x3 - x2), ji_ x4, ji_ (x5 - x4)] (N, K, M, g) (j_pV N K g q)) (k1 : ∀ M', q M' → j_J G jm_Re_run (d + 1) B S 24 [jr_ a0, jr_ a1, ji_ x2, ji_ x3, ji_ x4, ji_ x5, ji_ (x3 - x2), ji_ (x5 - x4), u8, u9, u10, u11] [] (N, K, M', g) Q) : j_J G jm_Re_run (d + 1) B S 0 [jr_ a0, jr_ a1, ji_ x2, ji_ x3, ji_ x4, ji_ x5, u6, u7, u8, u9, u10, u11] [] (N, K, M, g) Q :=
  j_iload_n d_Re_run_0 rfl <| j_iload_n d_Re_run_1 rfl <| j_isub d_Re_run_2 <| j_istore d_Re_run_3 rfl rfl <| j_iload d_Re_run_5 rfl <| j_iload d_Re_run_7 rfl <| j_isub d_Re_run_9 <| j_istore d_Re_run_10 rfl rfl <| j_aload_n d_Re_run_12 rfl <| j_aload_n d_Re_run_13 rfl <| j_iload_n d_Re_run_14 rfl <| j_iload d_Re_run_15 rfl <| j_iload d_Re_run_17 rfl <| j_iload d_Re_run_19 rfl <| j_aVV (as := [jr_ a1, ji_ x2, ji_ (x3 - x2), ji_ x4, ji_ (x5 - x4)]) (rest := []) d_Re_run_21 c_Re_40 hk1 rfl (Nat.le_of_ble_eq_true rfl) hC k1
theorem s_Re_run_24 {G : j_G} {d B S N : Nat} {K : Nat → Option (Nat × Nat)} {M : Nat → Int → Int} {g : Nat → Int → Option Nat} {Q : j_O → j_S → Prop} {a0 a1 : Nat} {x2 x3 x4 x5 x6 x7 : Int} {u8 u9 u10 u11 : j_V}  (k1 : j_J G jm_Re_run d B S 27 [jr_ a0, jr_ a1, ji_ x2, ji_ x3, ji_ x4, ji_ x5, ji_ x6, ji_ x7, ji_ 0, u9, u10, u11] [] (N, K, M, g) Q) : j_J G jm_Re_run d B S 24 [jr_ a0, jr_ a1, ji_ x2, ji_ x3, ji_ x4, ji_ x5, ji_ x6, ji_ x7, u8, u9, u10, u11] [] (N, K, M, g) Q :=
  j_iconst d_Re_run_24 <| j_istore d_Re_run_25 rfl rfl <| k1
theorem s_Re_run_27 {G : j_G} {d B S N : Nat} {K : Nat → Option (Nat × Nat)} {M : Nat → Int → Int} {g : Nat → Int → Option Nat} {Q : j_O → j_S → Prop} {a0 a1 : Nat} {x2 x3 x4 x5 x6 x7 x8 : Int} {u9 u10 u11 : j_V} {q : Int → (Nat → Int → Int) → Prop} (hk1 : K a0 = some (0, 3)) (hC : j_Ct G jm_Re_reaches d 0 0 [jr_ a0, ji_ x8, ji_ 0, ji_ 0, ji_ x6, ji_ x7] (N, K, M, g) (j_pI N K g q)) (k1 : ∀ z M', q z M' → j_J G jm_Re_run (d + 1) B S 39 [jr_ a0, jr_ a1, ji_ x2, ji_ x3, ji_ x4, ji_ x5, ji_ x6, ji_ x7, ji_ x8, u9, u10, u11] [ji_ z] (N, K, M', g) Q) : j_J G jm_Re_run (d + 1) B S 27 [jr_ a0, jr_ a1, ji_ x2, ji_ x3, ji_ x4, ji_ x5, ji_ x6, ji_ x7, ji_ x8, u9, u10, u11] [] (N, K, M, g) Q :=
  j_aload_n d_Re_run_27 rfl <| j_iload d_Re_run_28 rfl <| j_iconst d_Re_run_30 <| j_iconst d_Re_run_31 <| j_iload d_Re_run_32 rfl <| j_iload d_Re_run_34 rfl <| j_aVI (as := [ji_ x8, ji_ 0, ji_ 0, ji_ x6, ji_ x7]) (rest := []) d_Re_run_36 c_Re_44 hk1 rfl (Nat.le_of_ble_eq_true rfl) hC k1
theorem s_Re_run_39 {G : j_G} {d B S N : Nat} {K : Nat → Option (Nat × Nat)} {M : Nat → Int → Int} {g : Nat → Int → Option Nat} {Q : j_O → j_S → Prop} {a0 a1 : Nat} {x2 x3 x4 x5 x6 x7 x8 t0 : Int} {u9 u10 u11 : j_V} (r1 : -2147483648 ≤ t0 ∧ t0 ≤ 2147483647 := by omega) (k1 : t0 ≠ 0 → j_J G jm_Re_run d B S 54 [jr_ a0, jr_ a1, ji_ x2, ji_ x3, ji_ x4, ji_ x5, ji_ x6, ji_ x7, ji_ x8, ji_ 0, ji_ 0, u11] [] (N, K, M, g) Q) (k2 : t0 = 0 → j_J G jm_Re_run d B S 27 [jr_ a0, jr_ a1, ji_ x2, ji_ x3, ji_ x4, ji_ x5, ji_ x6, ji_ x7, ji_ (x8 + 1), u9, u10, u11] [] (N, K, M, g) Q) : j_J G jm_Re_run d B S 39 [jr_ a0, jr_ a1, ji_ x2, ji_ x3, ji_ x4, ji_ x5, ji_ x6, ji_ x7, ji_ x8, u9, u10, u11] [ji_ t0] (N, K, M, g) Q :=
  j_if_ne d_Re_run_39 r1 (fun h => j_iconst d_Re_run_48 <| j_istore d_Re_run_49 rfl rfl <| j_iconst d_Re_run_51 <| j_istore d_Re_run_52 rfl rfl <| k1 h) (fun h => j_iinc d_Re_run_42 rfl rfl rfl <| j_goto d_Re_run_45 <| k2 h)
theorem s_Re_run_42 {G : j_G} {d B S N : Nat} {K : Nat → Option (Nat × Nat)} {M : Nat → Int → Int} {g : Nat → Int → Option Nat} {Q : j_O → j_S → Prop} {a0 a1 : Nat} {x2 x3 x4 x5 x6 x7 x8 : Int} {u9 u10 u11 : j_V}  (k1 : j_J G jm_Re_run d B S 27 [jr_ a0, jr_ a1, ji_ x2, ji_ x3, ji_ x4, ji_ x5, ji_ x6, ji_ x7, ji_ (x8 + 1), u9, u10, u11] [] (N, K, M, g) Q) : j_J G jm_Re_run d B S 42 [jr_ a0, jr_ a1, ji_ x2, ji_ x3, ji_ x4, ji_ x5, ji_ x6, ji_ x7, ji_ x8, u9, u10, u11] [] (N, K, M, g) Q :=
  j_iinc d_Re_run_42 rfl rfl rfl <| j_goto d_Re_run_45 k1
theorem s_Re_run_48 {G : j_G} {d B S N : Nat} {K : Nat → Option (Nat × Nat)} {M : Nat → Int → Int} {g : Nat → Int → Option Nat} {Q : j_O → j_S → Prop} {a0 a1 : Nat} {x2 x3 x4 x5 x6 x7 x8 : Int} {u9 u10 u11 : j_V}  (k1 : j_J G jm_Re_run d B S 54 [jr_ a0, jr_ a1, ji_ x2, ji_ x3, ji_ x4, ji_ x5, ji_ x6, ji_ x7, ji_ x8, ji_ 0, ji_ 0, u11] [] (N, K, M, g) Q) : j_J G jm_Re_run d B S 48 [jr_ a0, jr_ a1, ji_ x2, ji_ x3, ji_ x4, ji_ x5, ji_ x6, ji_ x7, ji_ x8, u9, u10, u11] [] (N, K, M, g) Q :=
  j_iconst d_Re_run_48 <| j_istore d_Re_run_49 rfl rfl <| j_iconst d_Re_run_51 <| j_istore d_Re_run_52 rfl rfl <| k1
theorem s_Re_run_54 {G : j_G} {d B S N : Nat} {K : Nat → Option (Nat × Nat)} {M : Nat → Int → Int} {g : Nat → Int → Option Nat} {Q : j_O → j_S → Prop} {a0 a1 : Nat} {x2 x3 x4 x5 x6 x7 x8 x9 x10 : Int} {u11 : j_V} (r1 : -2147483648 ≤ x9 ∧ x9 ≤ 2147483647 := by omega) (r2 : -2147483648 ≤ x6 ∧ x6 ≤ 2147483647 := by omega) (k1 : x6 ≤ x9 → Q (.inl none) (N, K, M, g)) (k2 : x9 < x6 → j_J G jm_Re_run d B S 61 [jr_ a0, jr_ a1, ji_ x2, ji_ x3, ji_ x4, ji_ x5, ji_ x6, ji_ x7, ji_ x8, ji_ x9, ji_ x10, u11] [] (N, K, M, g) Q) : j_J G jm_Re_run d B S 54 [jr_ a0, jr_ a1, ji_ x2, ji_ x3, ji_ x4, ji_ x5, ji_ x6, ji_ x7, ji_ x8, ji_ x9, ji_ x10, u11] [] (N, K, M, g) Q :=
  j_iload d_Re_run_54 rfl <| j_iload d_Re_run_56 rfl <| j_icmp_ge d_Re_run_58 r1 r2 (fun h => j_vreturn d_Re_run_162 rfl <| k1 h) k2
theorem s_Re_run_61 {G : j_G} {d B S N : Nat} {K : Nat → Option (Nat × Nat)} {M : Nat → Int → Int} {g : Nat → Int → Option Nat} {Q : j_O → j_S → Prop} {a0 a1 : Nat} {x2 x3 x4 x5 x6 x7 x8 x9 x10 : Int} {u11 : j_V} (r1 : -2147483648 ≤ x10 ∧ x10 ≤ 2147483647 := by omega) (r2 : -2147483648 ≤ x7 ∧ x7 ≤ 2147483647 := by omega) (k1 : x7 ≤ x10 → Q (.inl none) (N, K, M, g)) (k2 : x10 < x7 → j_J G jm_Re_run d B S 68 [jr_ a0, jr_ a1, ji_ x2, ji_ x3, ji_ x4, ji_ x5, ji_ x6, ji_ x7, ji_ x8, ji_ x9, ji_ x10, u11] [] (N, K, M, g) Q) : j_J G jm_Re_run d B S 61 [jr_ a0, jr_ a1, ji_ x2, ji_ x3, ji_ x4, ji_ x5, ji_ x6, ji_ x7, ji_ x8, ji_ x9, ji_ x10, u11] [] (N, K, M, g) Q :=
  j_iload d_Re_run_61 rfl <| j_iload d_Re_run_63 rfl <| j_icmp_ge d_Re_run_65 r1 r2 (fun h => j_vreturn d_Re_run_162 rfl <| k1 h) k2
theorem s_Re_run_68 {G : j_G} {d B S N : Nat} {K : Nat → Option (Nat × Nat)} {M : Nat → Int → Int} {g : Nat → Int → Option Nat} {Q : j_O → j_S → Prop} {a0 a1 : Nat} {x2 x3 x4 x5 x6 x7 x8 x9 x10 : Int} {u11 : j_V} {q : Int → (Nat → Int → Int) → Prop} (hk1 : K a1 = some (0, 2)) (hC : j_Ct G jm_Pr_equal d 0 0 [jr_ a1, ji_ (x2 + x9), ji_ (x4 + x10)] (N, K, M, g) (j_pI N K g q)) (k1 : ∀ z M', q z M' → j_J G jm_Re_run (d + 1) B S 81 [jr_ a0, jr_ a1, ji_ x2, ji_ x3, ji_ x4, ji_ x5, ji_ x6, ji_ x7, ji_ x8, ji_ x9, ji_ x10, u11] [ji_ z] (N, K, M', g) Q) : j_J G jm_Re_run (d + 1) B S 68 [jr_ a0, jr_ a1, ji_ x2, ji_ x3, ji_ x4, ji_ x5, ji_ x6, ji_ x7, ji_ x8, ji_ x9, ji_ x10, u11] [] (N, K, M, g) Q :=
  j_aload_n d_Re_run_68 rfl <| j_iload_n d_Re_run_69 rfl <| j_iload d_Re_run_70 rfl <| j_iadd d_Re_run_72 <| j_iload d_Re_run_73 rfl <| j_iload d_Re_run_75 rfl <| j_iadd d_Re_run_77 <| j_aVI (as := [ji_ (x2 + x9), ji_ (x4 + x10)]) (rest := []) d_Re_run_78 c_Re_34 hk1 rfl (Nat.le_of_ble_eq_true rfl) hC k1
theorem s_Re_run_81 {G : j_G} {d B S N : Nat} {K : Nat → Option (Nat × Nat)} {M : Nat → Int → Int} {g : Nat → Int → Option Nat} {Q : j_O → j_S → Prop} {a0 a1 : Nat} {x2 x3 x4 x5 x6 x7 x8 x9 x10 t0 : Int} {u11 : j_V} (r1 : -2147483648 ≤ t0 ∧ t0 ≤ 2147483647 := by omega) (k1 : t0 = 0 → j_J G jm_Re_run d B S 108 [jr_ a0, jr_ a1, ji_ x2, ji_ x3, ji_ x4, ji_ x5, ji_ x6, ji_ x7, ji_ x8, ji_ x9, ji_ x10, u11] [] (N, K, M, g) Q) (k2 : t0 ≠ 0 → j_J G jm_Re_run d B S 84 [jr_ a0, jr_ a1, ji_ x2, ji_ x3, ji_ x4, ji_ x5, ji_ x6, ji_ x7, ji_ x8, ji_ x9, ji_ x10, u11] [] (N, K, M, g) Q) : j_J G jm_Re_run d B S 81 [jr_ a0, jr_ a1, ji_ x2, ji_ x3, ji_ x4, ji_ x5, ji_ x6, ji_ x7, ji_ x8, ji_ x9, ji_ x10, u11] [ji_ t0] (N, K, M, g) Q :=
  j_if_eq d_Re_run_81 r1 k1 k2
theorem s_Re_run_84 {G : j_G} {d B S N : Nat} {K : Nat → Option (Nat × Nat)} {M : Nat → Int → Int} {g : Nat → Int → Option Nat} {Q : j_O → j_S → Prop} {a0 a1 y1 n2 : Nat} {x2 x3 x4 x5 x6 x7 x8 x9 x10 : Int} {u11 : j_V} (hk1 : K a1 = some (0, 2)) (hg2 : g a1 2 = some y1) (hk2 : K y1 = some (2, n2)) (r3 : 0 ≤ (x2 + x9) := by omega) (r3' : (x2 + x9) < (n2 : Int) := by omega) (r4 : -128 ≤ (Int.bmod (x4 + x10) 256) ∧ (Int.bmod (x4 + x10) 256) ≤ 127 := by omega) (k1 : j_J G jm_Re_run d B S 54 [jr_ a0, jr_ a1, ji_ x2, ji_ x3, ji_ x4, ji_ x5, ji_ x6, ji_ x7, ji_ x8, ji_ (x9 + 1), ji_ (x10 + 1), u11] [] (N, K, (j_up M y1 (x2 + x9) (Int.bmod (x4 + x10) 256)), g) Q) : j_J G jm_Re_run d B S 84 [jr_ a0, jr_ a1, ji_ x2, ji_ x3, ji_ x4, ji_ x5, ji_ x6, ji_ x7, ji_ x8, ji_ x9, ji_ x10, u11] [] (N, K, M, g) Q :=
  j_aload_n d_Re_run_84 rfl <| j_getR d_Re_run_85 f_Re_48 hk1 hg2 <| j_iload_n d_Re_run_88 rfl <| j_iload d_Re_run_89 rfl <| j_iadd d_Re_run_91 <| j_iload d_Re_run_92 rfl <| j_iload d_Re_run_94 rfl <| j_iadd d_Re_run_96 <| j_i2b d_Re_run_97 <| j_bast d_Re_run_98 hk2 r3 r3' r4 <| j_iinc d_Re_run_99 rfl rfl rfl <| j_iinc d_Re_run_102 rfl rfl rfl <| j_goto d_Re_run_105 k1
theorem s_Re_run_108 {G : j_G} {d B S N : Nat} {K : Nat → Option (Nat × Nat)} {M : Nat → Int → Int} {g : Nat → Int → Option Nat} {Q : j_O → j_S → Prop} {a0 a1 : Nat} {x2 x3 x4 x5 x6 x7 x8 x9 x10 : Int} {u11 : j_V} {q : Int → (Nat → Int → Int) → Prop} (hk1 : K a0 = some (0, 3)) (hC : j_Ct G jm_Re_reaches d 0 0 [jr_ a0, ji_ (x8 + (-1)), ji_ (x9 + 1), ji_ x10, ji_ x6, ji_ x7] (N, K, M, g) (j_pI N K g q)) (k1 : ∀ z M', q z M' → j_J G jm_Re_run (d + 1) B S 127 [jr_ a0, jr_ a1, ji_ x2, ji_ x3, ji_ x4, ji_ x5, ji_ x6, ji_ x7, ji_ (x8 + (-1)), ji_ x9, ji_ x10, u11] [ji_ z] (N, K, M', g) Q) : j_J G jm_Re_run (d + 1) B S 108 [jr_ a0, jr_ a1, ji_ x2, ji_ x3, ji_ x4, ji_ x5, ji_ x6, ji_ x7, ji_ x8, ji_ x9, ji_ x10, u11] [] (N, K, M, g) Q :=
  j_iinc d_Re_run_108 rfl rfl rfl <| j_aload_n d_Re_run_111 rfl <| j_iload d_Re_run_112 rfl <| j_iload d_Re_run_114 rfl <| j_iconst d_Re_run_116 <| j_iadd d_Re_run_117 <| j_iload d_Re_run_118 rfl <| j_iload d_Re_run_120 rfl <| j_iload d_Re_run_122 rfl <| j_aVI (as := [ji_ (x8 + (-1)), ji_ (x9 + 1), ji_ x10, ji_ x6, ji_ x7]) (rest := []) d_Re_run_124 c_Re_44 hk1 rfl (Nat.le_of_ble_eq_true rfl) hC k1
theorem s_Re_run_127 {G : j_G} {d B S N : Nat} {K : Nat → Option (Nat × Nat)} {M : Nat → Int → Int} {g : Nat → Int → Option Nat} {Q : j_O → j_S → Prop} {a0 a1 : Nat} {x2 x3 x4 x5 x6 x7 x8 x9 x10 t0 : Int} {u11 : j_V} (r1 : -2147483648 ≤ t0 ∧ t0 ≤ 2147483647 := by omega) (k1 : t0 = 0 → j_J G jm_Re_run d B S 141 [jr_ a0, jr_ a1, ji_ x2, ji_ x3, ji_ x4, ji_ x5, ji_ x6, ji_ x7, ji_ x8, ji_ x9, ji_ x10, ji_ t0] [ji_ 0, ji_ x9] (N, K, M, g) Q) (k2 : t0 ≠ 0 → j_J G jm_Re_run d B S 141 [jr_ a0, jr_ a1, ji_ x2, ji_ x3, ji_ x4, ji_ x5, ji_ x6, ji_ x7, ji_ x8, ji_ x9, ji_ x10, ji_ t0] [ji_ 1, ji_ x9] (N, K, M, g) Q) : j_J G jm_Re_run d B S 127 [jr_ a0, jr_ a1, ji_ x2, ji_ x3, ji_ x4, ji_ x5, ji_ x6, ji_ x7, ji_ x8, ji_ x9, ji_ x10, u11] [ji_ t0] (N, K, M, g) Q :=
  j_istore d_Re_run_127 rfl rfl <| j_iload d_Re_run_129 rfl <| j_iload d_Re_run_131 rfl <| j_if_eq d_Re_run_133 r1 (fun h => j_iconst d_Re_run_140 <| k1 h) (fun h => j_iconst d_Re_run_136 <| j_goto d_Re_run_137 <| k2 h)
theorem s_Re_run_136 {G : j_G} {d B S N : Nat} {K : Nat → Option (Nat × Nat)} {M : Nat → Int → Int} {g : Nat → Int → Option Nat} {Q : j_O → j_S → Prop} {a0 a1 : Nat} {x2 x3 x4 x5 x6 x7 x8 x9 x10 x11 t0 : Int}  (k1 : j_J G jm_Re_run d B S 141 [jr_ a0, jr_ a1, ji_ x2, ji_ x3, ji_ x4, ji_ x5, ji_ x6, ji_ x7, ji_ x8, ji_ x9, ji_ x10, ji_ x11] [ji_ 1, ji_ t0] (N, K, M, g) Q) : j_J G jm_Re_run d B S 136 [jr_ a0, jr_ a1, ji_ x2, ji_ x3, ji_ x4, ji_ x5, ji_ x6, ji_ x7, ji_ x8, ji_ x9, ji_ x10, ji_ x11] [ji_ t0] (N, K, M, g) Q :=
  j_iconst d_Re_run_136 <| j_goto d_Re_run_137 k1
theorem s_Re_run_140 {G : j_G} {d B S N : Nat} {K : Nat → Option (Nat × Nat)} {M : Nat → Int → Int} {g : Nat → Int → Option Nat} {Q : j_O → j_S → Prop} {a0 a1 : Nat} {x2 x3 x4 x5 x6 x7 x8 x9 x10 x11 t0 : Int}  (k1 : j_J G jm_Re_run d B S 141 [jr_ a0, jr_ a1, ji_ x2, ji_ x3, ji_ x4, ji_ x5, ji_ x6, ji_ x7, ji_ x8, ji_ x9, ji_ x10, ji_ x11] [ji_ 0, ji_ t0] (N, K, M, g) Q) : j_J G jm_Re_run d B S 140 [jr_ a0, jr_ a1, ji_ x2, ji_ x3, ji_ x4, ji_ x5, ji_ x6, ji_ x7, ji_ x8, ji_ x9, ji_ x10, ji_ x11] [ji_ t0] (N, K, M, g) Q :=
  j_iconst d_Re_run_140 <| k1
theorem s_Re_run_141 {G : j_G} {d B S N : Nat} {K : Nat → Option (Nat × Nat)} {M : Nat → Int → Int} {g : Nat → Int → Option Nat} {Q : j_O → j_S → Prop} {a0 a1 : Nat} {x2 x3 x4 x5 x6 x7 x8 x9 x10 x11 t0 t1 : Int} (r1 : -2147483648 ≤ x11 ∧ x11 ≤ 2147483647 := by omega) (k1 : x11 = 0 → j_J G jm_Re_run d B S 54 [jr_ a0, jr_ a1, ji_ x2, ji_ x3, ji_ x4, ji_ x5, ji_ x6, ji_ x7, ji_ x8, ji_ (t0 + t1), ji_ (x10 + 1), ji_ x11] [] (N, K, M, g) Q) (k2 : x11 ≠ 0 → j_J G jm_Re_run d B S 54 [jr_ a0, jr_ a1, ji_ x2, ji_ x3, ji_ x4, ji_ x5, ji_ x6, ji_ x7, ji_ x8, ji_ (t0 + t1), ji_ (x10 + 0), ji_ x11] [] (N, K, M, g) Q) : j_J G jm_Re_run d B S 141 [jr_ a0, jr_ a1, ji_ x2, ji_ x3, ji_ x4, ji_ x5, ji_ x6, ji_ x7, ji_ x8, ji_ x9, ji_ x10, ji_ x11] [ji_ t1, ji_ t0] (N, K, M, g) Q :=
  j_iadd d_Re_run_141 <| j_istore d_Re_run_142 rfl rfl <| j_iload d_Re_run_144 rfl <| j_iload d_Re_run_146 rfl <| j_if_eq d_Re_run_148 r1 (fun h => j_iconst d_Re_run_155 <| j_iadd d_Re_run_156 <| j_istore d_Re_run_157 rfl rfl <| j_goto d_Re_run_159 <| k1 h) (fun h => j_iconst d_Re_run_151 <| j_goto d_Re_run_152 <| j_iadd d_Re_run_156 <| j_istore d_Re_run_157 rfl rfl <| j_goto d_Re_run_159 <| k2 h)
theorem s_Re_run_151 {G : j_G} {d B S N : Nat} {K : Nat → Option (Nat × Nat)} {M : Nat → Int → Int} {g : Nat → Int → Option Nat} {Q : j_O → j_S → Prop} {a0 a1 : Nat} {x2 x3 x4 x5 x6 x7 x8 x9 x10 x11 t0 : Int}  (k1 : j_J G jm_Re_run d B S 54 [jr_ a0, jr_ a1, ji_ x2, ji_ x3, ji_ x4, ji_ x5, ji_ x6, ji_ x7, ji_ x8, ji_ x9, ji_ (t0 + 0), ji_ x11] [] (N, K, M, g) Q) : j_J G jm_Re_run d B S 151 [jr_ a0, jr_ a1, ji_ x2, ji_ x3, ji_ x4, ji_ x5, ji_ x6, ji_ x7, ji_ x8, ji_ x9, ji_ x10, ji_ x11] [ji_ t0] (N, K, M, g) Q :=
  j_iconst d_Re_run_151 <| j_goto d_Re_run_152 (j_iadd d_Re_run_156 <| j_istore d_Re_run_157 rfl rfl <| j_goto d_Re_run_159 <| k1)
theorem s_Re_run_155 {G : j_G} {d B S N : Nat} {K : Nat → Option (Nat × Nat)} {M : Nat → Int → Int} {g : Nat → Int → Option Nat} {Q : j_O → j_S → Prop} {a0 a1 : Nat} {x2 x3 x4 x5 x6 x7 x8 x9 x10 x11 t0 : Int}  (k1 : j_J G jm_Re_run d B S 54 [jr_ a0, jr_ a1, ji_ x2, ji_ x3, ji_ x4, ji_ x5, ji_ x6, ji_ x7, ji_ x8, ji_ x9, ji_ (t0 + 1), ji_ x11] [] (N, K, M, g) Q) : j_J G jm_Re_run d B S 155 [jr_ a0, jr_ a1, ji_ x2, ji_ x3, ji_ x4, ji_ x5, ji_ x6, ji_ x7, ji_ x8, ji_ x9, ji_ x10, ji_ x11] [ji_ t0] (N, K, M, g) Q :=
  j_iconst d_Re_run_155 <| (j_iadd d_Re_run_156 <| j_istore d_Re_run_157 rfl rfl <| j_goto d_Re_run_159 <| k1)
theorem s_Re_run_156 {G : j_G} {d B S N : Nat} {K : Nat → Option (Nat × Nat)} {M : Nat → Int → Int} {g : Nat → Int → Option Nat} {Q : j_O → j_S → Prop} {a0 a1 : Nat} {x2 x3 x4 x5 x6 x7 x8 x9 x10 x11 t0 t1 : Int}  (k1 : j_J G jm_Re_run d B S 54 [jr_ a0, jr_ a1, ji_ x2, ji_ x3, ji_ x4, ji_ x5, ji_ x6, ji_ x7, ji_ x8, ji_ x9, ji_ (t0 + t1), ji_ x11] [] (N, K, M, g) Q) : j_J G jm_Re_run d B S 156 [jr_ a0, jr_ a1, ji_ x2, ji_ x3, ji_ x4, ji_ x5, ji_ x6, ji_ x7, ji_ x8, ji_ x9, ji_ x10, ji_ x11] [ji_ t1, ji_ t0] (N, K, M, g) Q :=
  j_iadd d_Re_run_156 <| j_istore d_Re_run_157 rfl rfl <| j_goto d_Re_run_159 k1
theorem s_Re_run_162 {G : j_G} {d B S N : Nat} {K : Nat → Option (Nat × Nat)} {M : Nat → Int → Int} {g : Nat → Int → Option Nat} {Q : j_O → j_S → Prop} {a0 a1 : Nat} {x2 x3 x4 x5 x6 x7 x8 x9 x10 : Int} {u11 : j_V}  (k1 : Q (.inl none) (N, K, M, g)) : j_J G jm_Re_run d B S 162 [jr_ a0, jr_ a1, ji_ x2, ji_ x3, ji_ x4, ji_ x5, ji_ x6, ji_ x7, ji_ x8, ji_ x9, ji_ x10, u11] [] (N, K, M, g) Q :=
  j_vreturn d_Re_run_162 rfl k1
