/-! decode facts, pool facts and segments: Mo_op, Mo_row, Mo_put, Mo_putNumber, Mo_others, Mo_putHunk, Mo_lastOf, Mo_write, Mo_type, Mo_wipe, Mo_character, Mo_look, Mo_want, Mo_number, Mo_readHunk, Mo_read (printed by gen/mk.py) -/
theorem d_Mo_op_0 : j_D jm_Mo_op 0 (.aload_n 0) 1 1 := ⟨by decide +kernel, rfl⟩
theorem d_Mo_op_1 : j_D jm_Mo_op 1 (.getfield 55) 3 4 := ⟨by decide +kernel, rfl⟩
theorem d_Mo_op_4 : j_D jm_Mo_op 4 (.aload_n 0) 1 5 := ⟨by decide +kernel, rfl⟩
theorem d_Mo_op_5 : j_D jm_Mo_op 5 (.getfield 145) 3 8 := ⟨by decide +kernel, rfl⟩
theorem d_Mo_op_8 : j_D jm_Mo_op 8 (.iload_n 1) 1 9 := ⟨by decide +kernel, rfl⟩
theorem d_Mo_op_9 : j_D jm_Mo_op 9 .iastore 1 10 := ⟨by decide +kernel, rfl⟩
theorem d_Mo_op_10 : j_D jm_Mo_op 10 (.aload_n 0) 1 11 := ⟨by decide +kernel, rfl⟩
theorem d_Mo_op_11 : j_D jm_Mo_op 11 (.getfield 58) 3 14 := ⟨by decide +kernel, rfl⟩
theorem d_Mo_op_14 : j_D jm_Mo_op 14 (.aload_n 0) 1 15 := ⟨by decide +kernel, rfl⟩
theorem d_Mo_op_15 : j_D jm_Mo_op 15 (.getfield 145) 3 18 := ⟨by decide +kernel, rfl⟩
theorem d_Mo_op_18 : j_D jm_Mo_op 18 (.iload_n 2) 1 19 := ⟨by decide +kernel, rfl⟩
theorem d_Mo_op_19 : j_D jm_Mo_op 19 .iastore 1 20 := ⟨by decide +kernel, rfl⟩
theorem d_Mo_op_20 : j_D jm_Mo_op 20 (.aload_n 0) 1 21 := ⟨by decide +kernel, rfl⟩
theorem d_Mo_op_21 : j_D jm_Mo_op 21 .dup 1 22 := ⟨by decide +kernel, rfl⟩
theorem d_Mo_op_22 : j_D jm_Mo_op 22 (.getfield 145) 3 25 := ⟨by decide +kernel, rfl⟩
theorem d_Mo_op_25 : j_D jm_Mo_op 25 (.iconst 1) 1 26 := ⟨by decide +kernel, rfl⟩
theorem d_Mo_op_26 : j_D jm_Mo_op 26 .iadd 1 27 := ⟨by decide +kernel, rfl⟩
theorem d_Mo_op_27 : j_D jm_Mo_op 27 (.putfield 145) 3 30 := ⟨by decide +kernel, rfl⟩
theorem d_Mo_op_30 : j_D jm_Mo_op 30 .return_ 1 31 := ⟨by decide +kernel, rfl⟩
theorem d_Mo_row_0 : j_D jm_Mo_row 0 (.aload_n 0) 1 1 := ⟨by decide +kernel, rfl⟩
theorem d_Mo_row_1 : j_D jm_Mo_row 1 (.iconst 0) 1 2 := ⟨by decide +kernel, rfl⟩
theorem d_Mo_row_2 : j_D jm_Mo_row 2 (.putfield 145) 3 5 := ⟨by decide +kernel, rfl⟩
theorem d_Mo_row_5 : j_D jm_Mo_row 5 (.iconst 0) 1 6 := ⟨by decide +kernel, rfl⟩
theorem d_Mo_row_6 : j_D jm_Mo_row 6 (.istore_n 1) 1 7 := ⟨by decide +kernel, rfl⟩
theorem d_Mo_row_7 : j_D jm_Mo_row 7 (.iconst 0) 1 8 := ⟨by decide +kernel, rfl⟩
theorem d_Mo_row_8 : j_D jm_Mo_row 8 (.istore_n 2) 1 9 := ⟨by decide +kernel, rfl⟩
theorem d_Mo_row_9 : j_D jm_Mo_row 9 (.iload_n 1) 1 10 := ⟨by decide +kernel, rfl⟩
theorem d_Mo_row_10 : j_D jm_Mo_row 10 (.aload_n 0) 1 11 := ⟨by decide +kernel, rfl⟩
theorem d_Mo_row_11 : j_D jm_Mo_row 11 (.getfield 139) 3 14 := ⟨by decide +kernel, rfl⟩
theorem d_Mo_row_14 : j_E jm_Mo_row 14 (.if_icmp .lt) 11 17 25 := ⟨by decide +kernel, rfl, by decide⟩
theorem d_Mo_row_17 : j_D jm_Mo_row 17 (.iload_n 2) 1 18 := ⟨by decide +kernel, rfl⟩
theorem d_Mo_row_18 : j_D jm_Mo_row 18 (.aload_n 0) 1 19 := ⟨by decide +kernel, rfl⟩
theorem d_Mo_row_19 : j_D jm_Mo_row 19 (.getfield 142) 3 22 := ⟨by decide +kernel, rfl⟩
theorem d_Mo_row_22 : j_E jm_Mo_row 22 (.if_icmp .ge) 112 25 134 := ⟨by decide +kernel, rfl, by decide⟩
theorem d_Mo_row_25 : j_D jm_Mo_row 25 (.iload_n 1) 1 26 := ⟨by decide +kernel, rfl⟩
theorem d_Mo_row_26 : j_D jm_Mo_row 26 (.aload_n 0) 1 27 := ⟨by decide +kernel, rfl⟩
theorem d_Mo_row_27 : j_D jm_Mo_row 27 (.getfield 139) 3 30 := ⟨by decide +kernel, rfl⟩
theorem d_Mo_row_30 : j_E jm_Mo_row 30 (.if_icmp .ge) 30 33 60 := ⟨by decide +kernel, rfl, by decide⟩
theorem d_Mo_row_33 : j_D jm_Mo_row 33 (.aload_n 0) 1 34 := ⟨by decide +kernel, rfl⟩
theorem d_Mo_row_34 : j_D jm_Mo_row 34 (.getfield 52) 3 37 := ⟨by decide +kernel, rfl⟩
theorem d_Mo_row_37 : j_D jm_Mo_row 37 (.iload_n 1) 1 38 := ⟨by decide +kernel, rfl⟩
theorem d_Mo_row_38 : j_D jm_Mo_row 38 .iaload 1 39 := ⟨by decide +kernel, rfl⟩
theorem d_Mo_row_39 : j_E jm_Mo_row 39 (.ifCond .ge) 21 42 60 := ⟨by decide +kernel, rfl, by decide⟩
theorem d_Mo_row_42 : j_D jm_Mo_row 42 (.aload_n 0) 1 43 := ⟨by decide +kernel, rfl⟩
theorem d_Mo_row_43 : j_D jm_Mo_row 43 (.bipush 45) 2 45 := ⟨by decide +kernel, rfl⟩
theorem d_Mo_row_45 : j_D jm_Mo_row 45 (.aload_n 0) 1 46 := ⟨by decide +kernel, rfl⟩
theorem d_Mo_row_46 : j_D jm_Mo_row 46 (.getfield 46) 3 49 := ⟨by decide +kernel, rfl⟩
theorem d_Mo_row_49 : j_D jm_Mo_row 49 (.iload_n 1) 1 50 := ⟨by decide +kernel, rfl⟩
theorem d_Mo_row_50 : j_D jm_Mo_row 50 .iaload 1 51 := ⟨by decide +kernel, rfl⟩
theorem d_Mo_row_51 : j_D jm_Mo_row 51 (.invokevirtual 148) 3 54 := ⟨by decide +kernel, rfl⟩
theorem d_Mo_row_54 : j_D jm_Mo_row 54 (.iinc 1 1) 3 57 := ⟨by decide +kernel, rfl⟩
theorem d_Mo_row_57 : j_E jm_Mo_row 57 .goto (-32) 60 25 := ⟨by decide +kernel, rfl, by decide⟩
theorem d_Mo_row_60 : j_D jm_Mo_row 60 (.iload_n 1) 1 61 := ⟨by decide +kernel, rfl⟩
theorem d_Mo_row_61 : j_D jm_Mo_row 61 (.aload_n 0) 1 62 := ⟨by decide +kernel, rfl⟩
theorem d_Mo_row_62 : j_D jm_Mo_row 62 (.getfield 139) 3 65 := ⟨by decide +kernel, rfl⟩
theorem d_Mo_row_65 : j_E jm_Mo_row 65 (.if_icmp .ge) 12 68 77 := ⟨by decide +kernel, rfl, by decide⟩
theorem d_Mo_row_68 : j_D jm_Mo_row 68 (.aload_n 0) 1 69 := ⟨by decide +kernel, rfl⟩
theorem d_Mo_row_69 : j_D jm_Mo_row 69 (.getfield 52) 3 72 := ⟨by decide +kernel, rfl⟩
theorem d_Mo_row_72 : j_D jm_Mo_row 72 (.iload_n 1) 1 73 := ⟨by decide +kernel, rfl⟩
theorem d_Mo_row_73 : j_D jm_Mo_row 73 .iaload 1 74 := ⟨by decide +kernel, rfl⟩
theorem d_Mo_row_74 : j_E jm_Mo_row 74 .goto 7 77 81 := ⟨by decide +kernel, rfl, by decide⟩
theorem d_Mo_row_77 : j_D jm_Mo_row 77 (.aload_n 0) 1 78 := ⟨by decide +kernel, rfl⟩
theorem d_Mo_row_78 : j_D jm_Mo_row 78 (.getfield 142) 3 81 := ⟨by decide +kernel, rfl⟩
theorem d_Mo_row_81 : j_D jm_Mo_row 81 (.istore_n 3) 1 82 := ⟨by decide +kernel, rfl⟩
theorem d_Mo_row_82 : j_D jm_Mo_row 82 (.iload_n 2) 1 83 := ⟨by decide +kernel, rfl⟩
theorem d_Mo_row_83 : j_D jm_Mo_row 83 (.iload_n 3) 1 84 := ⟨by decide +kernel, rfl⟩
theorem d_Mo_row_84 : j_E jm_Mo_row 84 (.if_icmp .ge) 21 87 105 := ⟨by decide +kernel, rfl, by decide⟩
theorem d_Mo_row_87 : j_D jm_Mo_row 87 (.aload_n 0) 1 88 := ⟨by decide +kernel, rfl⟩
theorem d_Mo_row_88 : j_D jm_Mo_row 88 (.bipush 43) 2 90 := ⟨by decide +kernel, rfl⟩
theorem d_Mo_row_90 : j_D jm_Mo_row 90 (.aload_n 0) 1 91 := ⟨by decide +kernel, rfl⟩
theorem d_Mo_row_91 : j_D jm_Mo_row 91 (.getfield 49) 3 94 := ⟨by decide +kernel, rfl⟩
theorem d_Mo_row_94 : j_D jm_Mo_row 94 (.iload_n 2) 1 95 := ⟨by decide +kernel, rfl⟩
theorem d_Mo_row_95 : j_D jm_Mo_row 95 .iaload 1 96 := ⟨by decide +kernel, rfl⟩
theorem d_Mo_row_96 : j_D jm_Mo_row 96 (.invokevirtual 148) 3 99 := ⟨by decide +kernel, rfl⟩
theorem d_Mo_row_99 : j_D jm_Mo_row 99 (.iinc 2 1) 3 102 := ⟨by decide +kernel, rfl⟩
theorem d_Mo_row_102 : j_E jm_Mo_row 102 .goto (-20) 105 82 := ⟨by decide +kernel, rfl, by decide⟩
theorem d_Mo_row_105 : j_D jm_Mo_row 105 (.iload_n 1) 1 106 := ⟨by decide +kernel, rfl⟩
theorem d_Mo_row_106 : j_D jm_Mo_row 106 (.aload_n 0) 1 107 := ⟨by decide +kernel, rfl⟩
theorem d_Mo_row_107 : j_D jm_Mo_row 107 (.getfield 139) 3 110 := ⟨by decide +kernel, rfl⟩
theorem d_Mo_row_110 : j_E jm_Mo_row 110 (.if_icmp .ge) 21 113 131 := ⟨by decide +kernel, rfl, by decide⟩
theorem d_Mo_row_113 : j_D jm_Mo_row 113 (.aload_n 0) 1 114 := ⟨by decide +kernel, rfl⟩
theorem d_Mo_row_114 : j_D jm_Mo_row 114 (.bipush 32) 2 116 := ⟨by decide +kernel, rfl⟩
theorem d_Mo_row_116 : j_D jm_Mo_row 116 (.aload_n 0) 1 117 := ⟨by decide +kernel, rfl⟩
theorem d_Mo_row_117 : j_D jm_Mo_row 117 (.getfield 46) 3 120 := ⟨by decide +kernel, rfl⟩
theorem d_Mo_row_120 : j_D jm_Mo_row 120 (.iload_n 1) 1 121 := ⟨by decide +kernel, rfl⟩
theorem d_Mo_row_121 : j_D jm_Mo_row 121 .iaload 1 122 := ⟨by decide +kernel, rfl⟩
theorem d_Mo_row_122 : j_D jm_Mo_row 122 (.invokevirtual 148) 3 125 := ⟨by decide +kernel, rfl⟩
theorem d_Mo_row_125 : j_D jm_Mo_row 125 (.iinc 1 1) 3 128 := ⟨by decide +kernel, rfl⟩
theorem d_Mo_row_128 : j_D jm_Mo_row 128 (.iinc 2 1) 3 131 := ⟨by decide +kernel, rfl⟩
theorem d_Mo_row_131 : j_E jm_Mo_row 131 .goto (-122) 134 9 := ⟨by decide +kernel, rfl, by decide⟩
theorem d_Mo_row_134 : j_D jm_Mo_row 134 .return_ 1 135 := ⟨by decide +kernel, rfl⟩
theorem d_Mo_put_0 : j_D jm_Mo_put 0 (.aload_n 0) 1 1 := ⟨by decide +kernel, rfl⟩
theorem d_Mo_put_1 : j_D jm_Mo_put 1 (.getfield 61) 3 4 := ⟨by decide +kernel, rfl⟩
theorem d_Mo_put_4 : j_D jm_Mo_put 4 (.aload_n 0) 1 5 := ⟨by decide +kernel, rfl⟩
theorem d_Mo_put_5 : j_D jm_Mo_put 5 (.getfield 151) 3 8 := ⟨by decide +kernel, rfl⟩
theorem d_Mo_put_8 : j_D jm_Mo_put 8 (.iload_n 1) 1 9 := ⟨by decide +kernel, rfl⟩
theorem d_Mo_put_9 : j_D jm_Mo_put 9 .iastore 1 10 := ⟨by decide +kernel, rfl⟩
theorem d_Mo_put_10 : j_D jm_Mo_put 10 (.aload_n 0) 1 11 := ⟨by decide +kernel, rfl⟩
theorem d_Mo_put_11 : j_D jm_Mo_put 11 .dup 1 12 := ⟨by decide +kernel, rfl⟩
theorem d_Mo_put_12 : j_D jm_Mo_put 12 (.getfield 151) 3 15 := ⟨by decide +kernel, rfl⟩
theorem d_Mo_put_15 : j_D jm_Mo_put 15 (.iconst 1) 1 16 := ⟨by decide +kernel, rfl⟩
theorem d_Mo_put_16 : j_D jm_Mo_put 16 .iadd 1 17 := ⟨by decide +kernel, rfl⟩
theorem d_Mo_put_17 : j_D jm_Mo_put 17 (.putfield 151) 3 20 := ⟨by decide +kernel, rfl⟩
theorem d_Mo_put_20 : j_D jm_Mo_put 20 .return_ 1 21 := ⟨by decide +kernel, rfl⟩
theorem d_Mo_putNumber_0 : j_D jm_Mo_putNumber 0 (.iload_n 1) 1 1 := ⟨by decide +kernel, rfl⟩
theorem d_Mo_putNumber_1 : j_D jm_Mo_putNumber 1 (.bipush 9) 2 3 := ⟨by decide +kernel, rfl⟩
theorem d_Mo_putNumber_3 : j_E jm_Mo_putNumber 3 (.if_icmp .le) 14 6 17 := ⟨by decide +kernel, rfl, by decide⟩
theorem d_Mo_putNumber_6 : j_D jm_Mo_putNumber 6 (.aload_n 0) 1 7 := ⟨by decide +kernel, rfl⟩
theorem d_Mo_putNumber_7 : j_D jm_Mo_putNumber 7 (.bipush 48) 2 9 := ⟨by decide +kernel, rfl⟩
theorem d_Mo_putNumber_9 : j_D jm_Mo_putNumber 9 (.iload_n 1) 1 10 := ⟨by decide +kernel, rfl⟩
theorem d_Mo_putNumber_10 : j_D jm_Mo_putNumber 10 (.bipush 10) 2 12 := ⟨by decide +kernel, rfl⟩
theorem d_Mo_putNumber_12 : j_D jm_Mo_putNumber 12 .idiv 1 13 := ⟨by decide +kernel, rfl⟩
theorem d_Mo_putNumber_13 : j_D jm_Mo_putNumber 13 .iadd 1 14 := ⟨by decide +kernel, rfl⟩
theorem d_Mo_putNumber_14 : j_D jm_Mo_putNumber 14 (.invokevirtual 154) 3 17 := ⟨by decide +kernel, rfl⟩
theorem d_Mo_putNumber_17 : j_D jm_Mo_putNumber 17 (.aload_n 0) 1 18 := ⟨by decide +kernel, rfl⟩
theorem d_Mo_putNumber_18 : j_D jm_Mo_putNumber 18 (.bipush 48) 2 20 := ⟨by decide +kernel, rfl⟩
theorem d_Mo_putNumber_20 : j_D jm_Mo_putNumber 20 (.iload_n 1) 1 21 := ⟨by decide +kernel, rfl⟩
theorem d_Mo_putNumber_21 : j_D jm_Mo_putNumber 21 (.bipush 10) 2 23 := ⟨by decide +kernel, rfl⟩
theorem d_Mo_putNumber_23 : j_D jm_Mo_putNumber 23 .irem 1 24 := ⟨by decide +kernel, rfl⟩
theorem d_Mo_putNumber_24 : j_D jm_Mo_putNumber 24 .iadd 1 25 := ⟨by decide +kernel, rfl⟩
theorem d_Mo_putNumber_25 : j_D jm_Mo_putNumber 25 (.invokevirtual 154) 3 28 := ⟨by decide +kernel, rfl⟩
theorem d_Mo_putNumber_28 : j_D jm_Mo_putNumber 28 .return_ 1 29 := ⟨by decide +kernel, rfl⟩
theorem d_Mo_others_0 : j_D jm_Mo_others 0 (.iconst 0) 1 1 := ⟨by decide +kernel, rfl⟩
theorem d_Mo_others_1 : j_D jm_Mo_others 1 (.istore 4) 2 3 := ⟨by decide +kernel, rfl⟩
theorem d_Mo_others_3 : j_D jm_Mo_others 3 (.iload_n 1) 1 4 := ⟨by decide +kernel, rfl⟩
theorem d_Mo_others_4 : j_D jm_Mo_others 4 (.istore 5) 2 6 := ⟨by decide +kernel, rfl⟩
theorem d_Mo_others_6 : j_D jm_Mo_others 6 (.iload 5) 2 8 := ⟨by decide +kernel, rfl⟩
theorem d_Mo_others_8 : j_D jm_Mo_others 8 (.iload_n 2) 1 9 := ⟨by decide +kernel, rfl⟩
theorem d_Mo_others_9 : j_E jm_Mo_others 9 (.if_icmp .ge) 31 12 40 := ⟨by decide +kernel, rfl, by decide⟩
theorem d_Mo_others_12 : j_D jm_Mo_others 12 (.aload_n 0) 1 13 := ⟨by decide +kernel, rfl⟩
theorem d_Mo_others_13 : j_D jm_Mo_others 13 (.getfield 55) 3 16 := ⟨by decide +kernel, rfl⟩
theorem d_Mo_others_16 : j_D jm_Mo_others 16 (.iload 5) 2 18 := ⟨by decide +kernel, rfl⟩
theorem d_Mo_others_18 : j_D jm_Mo_others 18 .iaload 1 19 := ⟨by decide +kernel, rfl⟩
theorem d_Mo_others_19 : j_D jm_Mo_others 19 (.iload_n 3) 1 20 := ⟨by decide +kernel, rfl⟩
theorem d_Mo_others_20 : j_E jm_Mo_others 20 (.if_icmp .eq) 10 23 30 := ⟨by decide +kernel, rfl, by decide⟩
theorem d_Mo_others_23 : j_D jm_Mo_others 23 (.iload 4) 2 25 := ⟨by decide +kernel, rfl⟩
theorem d_Mo_others_25 : j_D jm_Mo_others 25 (.iconst 1) 1 26 := ⟨by decide +kernel, rfl⟩
theorem d_Mo_others_26 : j_D jm_Mo_others 26 .iadd 1 27 := ⟨by decide +kernel, rfl⟩
theorem d_Mo_others_27 : j_E jm_Mo_others 27 .goto 5 30 32 := ⟨by decide +kernel, rfl, by decide⟩
theorem d_Mo_others_30 : j_D jm_Mo_others 30 (.iload 4) 2 32 := ⟨by decide +kernel, rfl⟩
theorem d_Mo_others_32 : j_D jm_Mo_others 32 (.istore 4) 2 34 := ⟨by decide +kernel, rfl⟩
theorem d_Mo_others_34 : j_D jm_Mo_others 34 (.iinc 5 1) 3 37 := ⟨by decide +kernel, rfl⟩
theorem d_Mo_others_37 : j_E jm_Mo_others 37 .goto (-31) 40 6 := ⟨by decide +kernel, rfl, by decide⟩
theorem d_Mo_others_40 : j_D jm_Mo_others 40 (.iload 4) 2 42 := ⟨by decide +kernel, rfl⟩
theorem d_Mo_others_42 : j_D jm_Mo_others 42 .ireturn 1 43 := ⟨by decide +kernel, rfl⟩
theorem d_Mo_putHunk_0 : j_D jm_Mo_putHunk 0 (.aload_n 0) 1 1 := ⟨by decide +kernel, rfl⟩
theorem d_Mo_putHunk_1 : j_D jm_Mo_putHunk 1 (.bipush 64) 2 3 := ⟨by decide +kernel, rfl⟩
theorem d_Mo_putHunk_3 : j_D jm_Mo_putHunk 3 (.invokevirtual 154) 3 6 := ⟨by decide +kernel, rfl⟩
theorem d_Mo_putHunk_6 : j_D jm_Mo_putHunk 6 (.aload_n 0) 1 7 := ⟨by decide +kernel, rfl⟩
theorem d_Mo_putHunk_7 : j_D jm_Mo_putHunk 7 (.aload_n 0) 1 8 := ⟨by decide +kernel, rfl⟩
theorem d_Mo_putHunk_8 : j_D jm_Mo_putHunk 8 (.iconst 0) 1 9 := ⟨by decide +kernel, rfl⟩
theorem d_Mo_putHunk_9 : j_D jm_Mo_putHunk 9 (.iload_n 1) 1 10 := ⟨by decide +kernel, rfl⟩
theorem d_Mo_putHunk_10 : j_D jm_Mo_putHunk 10 (.bipush 43) 2 12 := ⟨by decide +kernel, rfl⟩
theorem d_Mo_putHunk_12 : j_D jm_Mo_putHunk 12 (.invokevirtual 157) 3 15 := ⟨by decide +kernel, rfl⟩
theorem d_Mo_putHunk_15 : j_D jm_Mo_putHunk 15 (.invokevirtual 161) 3 18 := ⟨by decide +kernel, rfl⟩
theorem d_Mo_putHunk_18 : j_D jm_Mo_putHunk 18 (.aload_n 0) 1 19 := ⟨by decide +kernel, rfl⟩
theorem d_Mo_putHunk_19 : j_D jm_Mo_putHunk 19 (.bipush 44) 2 21 := ⟨by decide +kernel, rfl⟩
theorem d_Mo_putHunk_21 : j_D jm_Mo_putHunk 21 (.invokevirtual 154) 3 24 := ⟨by decide +kernel, rfl⟩
theorem d_Mo_putHunk_24 : j_D jm_Mo_putHunk 24 (.aload_n 0) 1 25 := ⟨by decide +kernel, rfl⟩
theorem d_Mo_putHunk_25 : j_D jm_Mo_putHunk 25 (.aload_n 0) 1 26 := ⟨by decide +kernel, rfl⟩
theorem d_Mo_putHunk_26 : j_D jm_Mo_putHunk 26 (.iload_n 1) 1 27 := ⟨by decide +kernel, rfl⟩
theorem d_Mo_putHunk_27 : j_D jm_Mo_putHunk 27 (.iload_n 2) 1 28 := ⟨by decide +kernel, rfl⟩
theorem d_Mo_putHunk_28 : j_D jm_Mo_putHunk 28 (.bipush 43) 2 30 := ⟨by decide +kernel, rfl⟩
theorem d_Mo_putHunk_30 : j_D jm_Mo_putHunk 30 (.invokevirtual 157) 3 33 := ⟨by decide +kernel, rfl⟩
theorem d_Mo_putHunk_33 : j_D jm_Mo_putHunk 33 (.invokevirtual 161) 3 36 := ⟨by decide +kernel, rfl⟩
theorem d_Mo_putHunk_36 : j_D jm_Mo_putHunk 36 (.aload_n 0) 1 37 := ⟨by decide +kernel, rfl⟩
theorem d_Mo_putHunk_37 : j_D jm_Mo_putHunk 37 (.bipush 32) 2 39 := ⟨by decide +kernel, rfl⟩
theorem d_Mo_putHunk_39 : j_D jm_Mo_putHunk 39 (.invokevirtual 154) 3 42 := ⟨by decide +kernel, rfl⟩
theorem d_Mo_putHunk_42 : j_D jm_Mo_putHunk 42 (.aload_n 0) 1 43 := ⟨by decide +kernel, rfl⟩
theorem d_Mo_putHunk_43 : j_D jm_Mo_putHunk 43 (.aload_n 0) 1 44 := ⟨by decide +kernel, rfl⟩
theorem d_Mo_putHunk_44 : j_D jm_Mo_putHunk 44 (.iconst 0) 1 45 := ⟨by decide +kernel, rfl⟩
theorem d_Mo_putHunk_45 : j_D jm_Mo_putHunk 45 (.iload_n 1) 1 46 := ⟨by decide +kernel, rfl⟩
theorem d_Mo_putHunk_46 : j_D jm_Mo_putHunk 46 (.bipush 45) 2 48 := ⟨by decide +kernel, rfl⟩
theorem d_Mo_putHunk_48 : j_D jm_Mo_putHunk 48 (.invokevirtual 157) 3 51 := ⟨by decide +kernel, rfl⟩
theorem d_Mo_putHunk_51 : j_D jm_Mo_putHunk 51 (.invokevirtual 161) 3 54 := ⟨by decide +kernel, rfl⟩
theorem d_Mo_putHunk_54 : j_D jm_Mo_putHunk 54 (.aload_n 0) 1 55 := ⟨by decide +kernel, rfl⟩
theorem d_Mo_putHunk_55 : j_D jm_Mo_putHunk 55 (.bipush 44) 2 57 := ⟨by decide +kernel, rfl⟩
theorem d_Mo_putHunk_57 : j_D jm_Mo_putHunk 57 (.invokevirtual 154) 3 60 := ⟨by decide +kernel, rfl⟩
theorem d_Mo_putHunk_60 : j_D jm_Mo_putHunk 60 (.aload_n 0) 1 61 := ⟨by decide +kernel, rfl⟩
theorem d_Mo_putHunk_61 : j_D jm_Mo_putHunk 61 (.aload_n 0) 1 62 := ⟨by decide +kernel, rfl⟩
theorem d_Mo_putHunk_62 : j_D jm_Mo_putHunk 62 (.iload_n 1) 1 63 := ⟨by decide +kernel, rfl⟩
theorem d_Mo_putHunk_63 : j_D jm_Mo_putHunk 63 (.iload_n 2) 1 64 := ⟨by decide +kernel, rfl⟩
theorem d_Mo_putHunk_64 : j_D jm_Mo_putHunk 64 (.bipush 45) 2 66 := ⟨by decide +kernel, rfl⟩
theorem d_Mo_putHunk_66 : j_D jm_Mo_putHunk 66 (.invokevirtual 157) 3 69 := ⟨by decide +kernel, rfl⟩
theorem d_Mo_putHunk_69 : j_D jm_Mo_putHunk 69 (.invokevirtual 161) 3 72 := ⟨by decide +kernel, rfl⟩
theorem d_Mo_putHunk_72 : j_D jm_Mo_putHunk 72 (.aload_n 0) 1 73 := ⟨by decide +kernel, rfl⟩
theorem d_Mo_putHunk_73 : j_D jm_Mo_putHunk 73 (.bipush 10) 2 75 := ⟨by decide +kernel, rfl⟩
theorem d_Mo_putHunk_75 : j_D jm_Mo_putHunk 75 (.invokevirtual 154) 3 78 := ⟨by decide +kernel, rfl⟩
theorem d_Mo_putHunk_78 : j_D jm_Mo_putHunk 78 (.iload_n 1) 1 79 := ⟨by decide +kernel, rfl⟩
theorem d_Mo_putHunk_79 : j_D jm_Mo_putHunk 79 (.istore_n 3) 1 80 := ⟨by decide +kernel, rfl⟩
theorem d_Mo_putHunk_80 : j_D jm_Mo_putHunk 80 (.iload_n 3) 1 81 := ⟨by decide +kernel, rfl⟩
theorem d_Mo_putHunk_81 : j_D jm_Mo_putHunk 81 (.iload_n 2) 1 82 := ⟨by decide +kernel, rfl⟩
theorem d_Mo_putHunk_82 : j_E jm_Mo_putHunk 82 (.if_icmp .ge) 35 85 117 := ⟨by decide +kernel, rfl, by decide⟩
theorem d_Mo_putHunk_85 : j_D jm_Mo_putHunk 85 (.aload_n 0) 1 86 := ⟨by decide +kernel, rfl⟩
theorem d_Mo_putHunk_86 : j_D jm_Mo_putHunk 86 (.aload_n 0) 1 87 := ⟨by decide +kernel, rfl⟩
theorem d_Mo_putHunk_87 : j_D jm_Mo_putHunk 87 (.getfield 55) 3 90 := ⟨by decide +kernel, rfl⟩
theorem d_Mo_putHunk_90 : j_D jm_Mo_putHunk 90 (.iload_n 3) 1 91 := ⟨by decide +kernel, rfl⟩
theorem d_Mo_putHunk_91 : j_D jm_Mo_putHunk 91 .iaload 1 92 := ⟨by decide +kernel, rfl⟩
theorem d_Mo_putHunk_92 : j_D jm_Mo_putHunk 92 (.invokevirtual 154) 3 95 := ⟨by decide +kernel, rfl⟩
theorem d_Mo_putHunk_95 : j_D jm_Mo_putHunk 95 (.aload_n 0) 1 96 := ⟨by decide +kernel, rfl⟩
theorem d_Mo_putHunk_96 : j_D jm_Mo_putHunk 96 (.aload_n 0) 1 97 := ⟨by decide +kernel, rfl⟩
theorem d_Mo_putHunk_97 : j_D jm_Mo_putHunk 97 (.getfield 58) 3 100 := ⟨by decide +kernel, rfl⟩
theorem d_Mo_putHunk_100 : j_D jm_Mo_putHunk 100 (.iload_n 3) 1 101 := ⟨by decide +kernel, rfl⟩
theorem d_Mo_putHunk_101 : j_D jm_Mo_putHunk 101 .iaload 1 102 := ⟨by decide +kernel, rfl⟩
theorem d_Mo_putHunk_102 : j_D jm_Mo_putHunk 102 (.invokevirtual 154) 3 105 := ⟨by decide +kernel, rfl⟩
theorem d_Mo_putHunk_105 : j_D jm_Mo_putHunk 105 (.aload_n 0) 1 106 := ⟨by decide +kernel, rfl⟩
theorem d_Mo_putHunk_106 : j_D jm_Mo_putHunk 106 (.bipush 10) 2 108 := ⟨by decide +kernel, rfl⟩
theorem d_Mo_putHunk_108 : j_D jm_Mo_putHunk 108 (.invokevirtual 154) 3 111 := ⟨by decide +kernel, rfl⟩
theorem d_Mo_putHunk_111 : j_D jm_Mo_putHunk 111 (.iinc 3 1) 3 114 := ⟨by decide +kernel, rfl⟩
theorem d_Mo_putHunk_114 : j_E jm_Mo_putHunk 114 .goto (-34) 117 80 := ⟨by decide +kernel, rfl, by decide⟩
theorem d_Mo_putHunk_117 : j_D jm_Mo_putHunk 117 .return_ 1 118 := ⟨by decide +kernel, rfl⟩
theorem d_Mo_lastOf_0 : j_D jm_Mo_lastOf 0 (.iload_n 1) 1 1 := ⟨by decide +kernel, rfl⟩
theorem d_Mo_lastOf_1 : j_D jm_Mo_lastOf 1 (.istore_n 3) 1 2 := ⟨by decide +kernel, rfl⟩
theorem d_Mo_lastOf_2 : j_D jm_Mo_lastOf 2 (.iload_n 1) 1 3 := ⟨by decide +kernel, rfl⟩
theorem d_Mo_lastOf_3 : j_D jm_Mo_lastOf 3 (.istore 4) 2 5 := ⟨by decide +kernel, rfl⟩
theorem d_Mo_lastOf_5 : j_D jm_Mo_lastOf 5 (.iload 4) 2 7 := ⟨by decide +kernel, rfl⟩
theorem d_Mo_lastOf_7 : j_D jm_Mo_lastOf 7 (.aload_n 0) 1 8 := ⟨by decide +kernel, rfl⟩
theorem d_Mo_lastOf_8 : j_D jm_Mo_lastOf 8 (.getfield 145) 3 11 := ⟨by decide +kernel, rfl⟩
theorem d_Mo_lastOf_11 : j_E jm_Mo_lastOf 11 (.if_icmp .ge) 40 14 51 := ⟨by decide +kernel, rfl, by decide⟩
theorem d_Mo_lastOf_14 : j_D jm_Mo_lastOf 14 (.iload 4) 2 16 := ⟨by decide +kernel, rfl⟩
theorem d_Mo_lastOf_16 : j_D jm_Mo_lastOf 16 (.iload_n 3) 1 17 := ⟨by decide +kernel, rfl⟩
theorem d_Mo_lastOf_17 : j_D jm_Mo_lastOf 17 .isub 1 18 := ⟨by decide +kernel, rfl⟩
theorem d_Mo_lastOf_18 : j_D jm_Mo_lastOf 18 (.iconst 2) 1 19 := ⟨by decide +kernel, rfl⟩
theorem d_Mo_lastOf_19 : j_D jm_Mo_lastOf 19 (.iload_n 2) 1 20 := ⟨by decide +kernel, rfl⟩
theorem d_Mo_lastOf_20 : j_D jm_Mo_lastOf 20 .imul 1 21 := ⟨by decide +kernel, rfl⟩
theorem d_Mo_lastOf_21 : j_E jm_Mo_lastOf 21 (.if_icmp .gt) 30 24 51 := ⟨by decide +kernel, rfl, by decide⟩
theorem d_Mo_lastOf_24 : j_D jm_Mo_lastOf 24 (.aload_n 0) 1 25 := ⟨by decide +kernel, rfl⟩
theorem d_Mo_lastOf_25 : j_D jm_Mo_lastOf 25 (.getfield 55) 3 28 := ⟨by decide +kernel, rfl⟩
theorem d_Mo_lastOf_28 : j_D jm_Mo_lastOf 28 (.iload 4) 2 30 := ⟨by decide +kernel, rfl⟩
theorem d_Mo_lastOf_30 : j_D jm_Mo_lastOf 30 .iaload 1 31 := ⟨by decide +kernel, rfl⟩
theorem d_Mo_lastOf_31 : j_D jm_Mo_lastOf 31 (.bipush 32) 2 33 := ⟨by decide +kernel, rfl⟩
theorem d_Mo_lastOf_33 : j_E jm_Mo_lastOf 33 (.if_icmp .eq) 10 36 43 := ⟨by decide +kernel, rfl, by decide⟩
theorem d_Mo_lastOf_36 : j_D jm_Mo_lastOf 36 (.iload 4) 2 38 := ⟨by decide +kernel, rfl⟩
theorem d_Mo_lastOf_38 : j_D jm_Mo_lastOf 38 (.iconst 1) 1 39 := ⟨by decide +kernel, rfl⟩
theorem d_Mo_lastOf_39 : j_D jm_Mo_lastOf 39 .iadd 1 40 := ⟨by decide +kernel, rfl⟩
theorem d_Mo_lastOf_40 : j_E jm_Mo_lastOf 40 .goto 4 43 44 := ⟨by decide +kernel, rfl, by decide⟩
theorem d_Mo_lastOf_43 : j_D jm_Mo_lastOf 43 (.iload_n 3) 1 44 := ⟨by decide +kernel, rfl⟩
theorem d_Mo_lastOf_44 : j_D jm_Mo_lastOf 44 (.istore_n 3) 1 45 := ⟨by decide +kernel, rfl⟩
theorem d_Mo_lastOf_45 : j_D jm_Mo_lastOf 45 (.iinc 4 1) 3 48 := ⟨by decide +kernel, rfl⟩
theorem d_Mo_lastOf_48 : j_E jm_Mo_lastOf 48 .goto (-43) 51 5 := ⟨by decide +kernel, rfl, by decide⟩
theorem d_Mo_lastOf_51 : j_D jm_Mo_lastOf 51 (.iload_n 3) 1 52 := ⟨by decide +kernel, rfl⟩
theorem d_Mo_lastOf_52 : j_D jm_Mo_lastOf 52 .ireturn 1 53 := ⟨by decide +kernel, rfl⟩
theorem d_Mo_write_0 : j_D jm_Mo_write 0 (.iload_n 1) 1 1 := ⟨by decide +kernel, rfl⟩
theorem d_Mo_write_1 : j_D jm_Mo_write 1 (.iconst 0) 1 2 := ⟨by decide +kernel, rfl⟩
theorem d_Mo_write_2 : j_D jm_Mo_write 2 (.iconst 3) 1 3 := ⟨by decide +kernel, rfl⟩
theorem d_Mo_write_3 : j_D jm_Mo_write 3 (.invokestatic 88) 3 6 := ⟨by decide +kernel, rfl⟩
theorem d_Mo_write_6 : j_E jm_Mo_write 6 (.ifCond .ne) 5 9 11 := ⟨by decide +kernel, rfl, by decide⟩
theorem d_Mo_write_9 : j_D jm_Mo_write 9 (.iconst (-1)) 1 10 := ⟨by decide +kernel, rfl⟩
theorem d_Mo_write_10 : j_D jm_Mo_write 10 .ireturn 1 11 := ⟨by decide +kernel, rfl⟩
theorem d_Mo_write_11 : j_D jm_Mo_write 11 (.aload_n 0) 1 12 := ⟨by decide +kernel, rfl⟩
theorem d_Mo_write_12 : j_D jm_Mo_write 12 (.getfield 135) 3 15 := ⟨by decide +kernel, rfl⟩
theorem d_Mo_write_15 : j_E jm_Mo_write 15 (.ifCond .ne) 6 18 21 := ⟨by decide +kernel, rfl, by decide⟩
theorem d_Mo_write_18 : j_D jm_Mo_write 18 (.bipush (-3)) 2 20 := ⟨by decide +kernel, rfl⟩
theorem d_Mo_write_20 : j_D jm_Mo_write 20 .ireturn 1 21 := ⟨by decide +kernel, rfl⟩
theorem d_Mo_write_21 : j_D jm_Mo_write 21 (.aload_n 0) 1 22 := ⟨by decide +kernel, rfl⟩
theorem d_Mo_write_22 : j_D jm_Mo_write 22 (.invokevirtual 164) 3 25 := ⟨by decide +kernel, rfl⟩
theorem d_Mo_write_25 : j_D jm_Mo_write 25 (.aload_n 0) 1 26 := ⟨by decide +kernel, rfl⟩
theorem d_Mo_write_26 : j_D jm_Mo_write 26 (.iconst 0) 1 27 := ⟨by decide +kernel, rfl⟩
theorem d_Mo_write_27 : j_D jm_Mo_write 27 (.putfield 151) 3 30 := ⟨by decide +kernel, rfl⟩
theorem d_Mo_write_30 : j_D jm_Mo_write 30 (.iconst 0) 1 31 := ⟨by decide +kernel, rfl⟩
theorem d_Mo_write_31 : j_D jm_Mo_write 31 (.istore_n 2) 1 32 := ⟨by decide +kernel, rfl⟩
theorem d_Mo_write_32 : j_D jm_Mo_write 32 (.iconst 0) 1 33 := ⟨by decide +kernel, rfl⟩
theorem d_Mo_write_33 : j_D jm_Mo_write 33 (.istore_n 3) 1 34 := ⟨by decide +kernel, rfl⟩
theorem d_Mo_write_34 : j_D jm_Mo_write 34 (.iload_n 3) 1 35 := ⟨by decide +kernel, rfl⟩
theorem d_Mo_write_35 : j_D jm_Mo_write 35 (.aload_n 0) 1 36 := ⟨by decide +kernel, rfl⟩
theorem d_Mo_write_36 : j_D jm_Mo_write 36 (.getfield 145) 3 39 := ⟨by decide +kernel, rfl⟩
theorem d_Mo_write_39 : j_E jm_Mo_write 39 (.if_icmp .ge) 83 42 122 := ⟨by decide +kernel, rfl, by decide⟩
theorem d_Mo_write_42 : j_D jm_Mo_write 42 (.aload_n 0) 1 43 := ⟨by decide +kernel, rfl⟩
theorem d_Mo_write_43 : j_D jm_Mo_write 43 (.getfield 55) 3 46 := ⟨by decide +kernel, rfl⟩
theorem d_Mo_write_46 : j_D jm_Mo_write 46 (.iload_n 3) 1 47 := ⟨by decide +kernel, rfl⟩
theorem d_Mo_write_47 : j_D jm_Mo_write 47 .iaload 1 48 := ⟨by decide +kernel, rfl⟩
theorem d_Mo_write_48 : j_D jm_Mo_write 48 (.bipush 32) 2 50 := ⟨by decide +kernel, rfl⟩
theorem d_Mo_write_50 : j_E jm_Mo_write 50 (.if_icmp .ne) 9 53 59 := ⟨by decide +kernel, rfl, by decide⟩
theorem d_Mo_write_53 : j_D jm_Mo_write 53 (.iinc 3 1) 3 56 := ⟨by decide +kernel, rfl⟩
theorem d_Mo_write_56 : j_E jm_Mo_write 56 .goto (-22) 59 34 := ⟨by decide +kernel, rfl, by decide⟩
theorem d_Mo_write_59 : j_D jm_Mo_write 59 (.aload_n 0) 1 60 := ⟨by decide +kernel, rfl⟩
theorem d_Mo_write_60 : j_D jm_Mo_write 60 (.iload_n 3) 1 61 := ⟨by decide +kernel, rfl⟩
theorem d_Mo_write_61 : j_D jm_Mo_write 61 (.iload_n 1) 1 62 := ⟨by decide +kernel, rfl⟩
theorem d_Mo_write_62 : j_D jm_Mo_write 62 (.invokevirtual 167) 3 65 := ⟨by decide +kernel, rfl⟩
theorem d_Mo_write_65 : j_D jm_Mo_write 65 (.istore 4) 2 67 := ⟨by decide +kernel, rfl⟩
theorem d_Mo_write_67 : j_D jm_Mo_write 67 (.iload_n 3) 1 68 := ⟨by decide +kernel, rfl⟩
theorem d_Mo_write_68 : j_D jm_Mo_write 68 (.iload_n 1) 1 69 := ⟨by decide +kernel, rfl⟩
theorem d_Mo_write_69 : j_E jm_Mo_write 69 (.if_icmp .ge) 7 72 76 := ⟨by decide +kernel, rfl, by decide⟩
theorem d_Mo_write_72 : j_D jm_Mo_write 72 (.iconst 0) 1 73 := ⟨by decide +kernel, rfl⟩
theorem d_Mo_write_73 : j_E jm_Mo_write 73 .goto 6 76 79 := ⟨by decide +kernel, rfl, by decide⟩
theorem d_Mo_write_76 : j_D jm_Mo_write 76 (.iload_n 3) 1 77 := ⟨by decide +kernel, rfl⟩
theorem d_Mo_write_77 : j_D jm_Mo_write 77 (.iload_n 1) 1 78 := ⟨by decide +kernel, rfl⟩
theorem d_Mo_write_78 : j_D jm_Mo_write 78 .isub 1 79 := ⟨by decide +kernel, rfl⟩
theorem d_Mo_write_79 : j_D jm_Mo_write 79 (.istore 5) 2 81 := ⟨by decide +kernel, rfl⟩
theorem d_Mo_write_81 : j_D jm_Mo_write 81 (.iload 4) 2 83 := ⟨by decide +kernel, rfl⟩
theorem d_Mo_write_83 : j_D jm_Mo_write 83 (.iload_n 1) 1 84 := ⟨by decide +kernel, rfl⟩
theorem d_Mo_write_84 : j_D jm_Mo_write 84 .iadd 1 85 := ⟨by decide +kernel, rfl⟩
theorem d_Mo_write_85 : j_D jm_Mo_write 85 (.aload_n 0) 1 86 := ⟨by decide +kernel, rfl⟩
theorem d_Mo_write_86 : j_D jm_Mo_write 86 (.getfield 145) 3 89 := ⟨by decide +kernel, rfl⟩
theorem d_Mo_write_89 : j_E jm_Mo_write 89 (.if_icmp .le) 10 92 99 := ⟨by decide +kernel, rfl, by decide⟩
theorem d_Mo_write_92 : j_D jm_Mo_write 92 (.aload_n 0) 1 93 := ⟨by decide +kernel, rfl⟩
theorem d_Mo_write_93 : j_D jm_Mo_write 93 (.getfield 145) 3 96 := ⟨by decide +kernel, rfl⟩
theorem d_Mo_write_96 : j_E jm_Mo_write 96 .goto 7 99 103 := ⟨by decide +kernel, rfl, by decide⟩
theorem d_Mo_write_99 : j_D jm_Mo_write 99 (.iload 4) 2 101 := ⟨by decide +kernel, rfl⟩
theorem d_Mo_write_101 : j_D jm_Mo_write 101 (.iload_n 1) 1 102 := ⟨by decide +kernel, rfl⟩
theorem d_Mo_write_102 : j_D jm_Mo_write 102 .iadd 1 103 := ⟨by decide +kernel, rfl⟩
theorem d_Mo_write_103 : j_D jm_Mo_write 103 (.istore 6) 2 105 := ⟨by decide +kernel, rfl⟩
theorem d_Mo_write_105 : j_D jm_Mo_write 105 (.aload_n 0) 1 106 := ⟨by decide +kernel, rfl⟩
theorem d_Mo_write_106 : j_D jm_Mo_write 106 (.iload 5) 2 108 := ⟨by decide +kernel, rfl⟩
theorem d_Mo_write_108 : j_D jm_Mo_write 108 (.iload 6) 2 110 := ⟨by decide +kernel, rfl⟩
theorem d_Mo_write_110 : j_D jm_Mo_write 110 (.invokevirtual 171) 3 113 := ⟨by decide +kernel, rfl⟩
theorem d_Mo_write_113 : j_D jm_Mo_write 113 (.iinc 2 1) 3 116 := ⟨by decide +kernel, rfl⟩
theorem d_Mo_write_116 : j_D jm_Mo_write 116 (.iload 4) 2 118 := ⟨by decide +kernel, rfl⟩
theorem d_Mo_write_118 : j_D jm_Mo_write 118 (.istore_n 3) 1 119 := ⟨by decide +kernel, rfl⟩
theorem d_Mo_write_119 : j_E jm_Mo_write 119 .goto (-85) 122 34 := ⟨by decide +kernel, rfl, by decide⟩
theorem d_Mo_write_122 : j_D jm_Mo_write 122 (.iload_n 2) 1 123 := ⟨by decide +kernel, rfl⟩
theorem d_Mo_write_123 : j_D jm_Mo_write 123 .ireturn 1 124 := ⟨by decide +kernel, rfl⟩
theorem d_Mo_type_0 : j_D jm_Mo_type 0 (.iload_n 3) 1 1 := ⟨by decide +kernel, rfl⟩
theorem d_Mo_type_1 : j_D jm_Mo_type 1 (.iconst 1) 1 2 := ⟨by decide +kernel, rfl⟩
theorem d_Mo_type_2 : j_D jm_Mo_type 2 (.bipush 8) 2 4 := ⟨by decide +kernel, rfl⟩
theorem d_Mo_type_4 : j_D jm_Mo_type 4 (.invokestatic 88) 3 7 := ⟨by decide +kernel, rfl⟩
theorem d_Mo_type_7 : j_E jm_Mo_type 7 (.ifCond .ne) 5 10 12 := ⟨by decide +kernel, rfl, by decide⟩
theorem d_Mo_type_10 : j_D jm_Mo_type 10 (.iconst (-1)) 1 11 := ⟨by decide +kernel, rfl⟩
theorem d_Mo_type_11 : j_D jm_Mo_type 11 .ireturn 1 12 := ⟨by decide +kernel, rfl⟩
theorem d_Mo_type_12 : j_D jm_Mo_type 12 (.aload_n 0) 1 13 := ⟨by decide +kernel, rfl⟩
theorem d_Mo_type_13 : j_D jm_Mo_type 13 (.getfield 151) 3 16 := ⟨by decide +kernel, rfl⟩
theorem d_Mo_type_16 : j_D jm_Mo_type 16 (.iload_n 3) 1 17 := ⟨by decide +kernel, rfl⟩
theorem d_Mo_type_17 : j_D jm_Mo_type 17 .iadd 1 18 := ⟨by decide +kernel, rfl⟩
theorem d_Mo_type_18 : j_D jm_Mo_type 18 (.sipush 900) 3 21 := ⟨by decide +kernel, rfl⟩
theorem d_Mo_type_21 : j_E jm_Mo_type 21 (.if_icmp .le) 6 24 27 := ⟨by decide +kernel, rfl, by decide⟩
theorem d_Mo_type_24 : j_D jm_Mo_type 24 (.bipush (-2)) 2 26 := ⟨by decide +kernel, rfl⟩
theorem d_Mo_type_26 : j_D jm_Mo_type 26 .ireturn 1 27 := ⟨by decide +kernel, rfl⟩
theorem d_Mo_type_27 : j_D jm_Mo_type 27 (.iload_n 3) 1 28 := ⟨by decide +kernel, rfl⟩
theorem d_Mo_type_28 : j_D jm_Mo_type 28 (.iconst 1) 1 29 := ⟨by decide +kernel, rfl⟩
theorem d_Mo_type_29 : j_D jm_Mo_type 29 .isub 1 30 := ⟨by decide +kernel, rfl⟩
theorem d_Mo_type_30 : j_D jm_Mo_type 30 (.istore 4) 2 32 := ⟨by decide +kernel, rfl⟩
theorem d_Mo_type_32 : j_D jm_Mo_type 32 (.iload 4) 2 34 := ⟨by decide +kernel, rfl⟩
theorem d_Mo_type_34 : j_E jm_Mo_type 34 (.ifCond .lt) 25 37 59 := ⟨by decide +kernel, rfl, by decide⟩
theorem d_Mo_type_37 : j_D jm_Mo_type 37 (.aload_n 0) 1 38 := ⟨by decide +kernel, rfl⟩
theorem d_Mo_type_38 : j_D jm_Mo_type 38 (.lload_n 1) 1 39 := ⟨by decide +kernel, rfl⟩
theorem d_Mo_type_39 : j_D jm_Mo_type 39 (.bipush 8) 2 41 := ⟨by decide +kernel, rfl⟩
theorem d_Mo_type_41 : j_D jm_Mo_type 41 (.iload 4) 2 43 := ⟨by decide +kernel, rfl⟩
theorem d_Mo_type_43 : j_D jm_Mo_type 43 .imul 1 44 := ⟨by decide +kernel, rfl⟩
theorem d_Mo_type_44 : j_D jm_Mo_type 44 .lshr 1 45 := ⟨by decide +kernel, rfl⟩
theorem d_Mo_type_45 : j_D jm_Mo_type 45 .l2i 1 46 := ⟨by decide +kernel, rfl⟩
theorem d_Mo_type_46 : j_D jm_Mo_type 46 (.sipush 255) 3 49 := ⟨by decide +kernel, rfl⟩
theorem d_Mo_type_49 : j_D jm_Mo_type 49 .iand 1 50 := ⟨by decide +kernel, rfl⟩
theorem d_Mo_type_50 : j_D jm_Mo_type 50 (.invokevirtual 154) 3 53 := ⟨by decide +kernel, rfl⟩
theorem d_Mo_type_53 : j_D jm_Mo_type 53 (.iinc 4 (-1)) 3 56 := ⟨by decide +kernel, rfl⟩
theorem d_Mo_type_56 : j_E jm_Mo_type 56 .goto (-24) 59 32 := ⟨by decide +kernel, rfl, by decide⟩
theorem d_Mo_type_59 : j_D jm_Mo_type 59 (.aload_n 0) 1 60 := ⟨by decide +kernel, rfl⟩
theorem d_Mo_type_60 : j_D jm_Mo_type 60 (.getfield 151) 3 63 := ⟨by decide +kernel, rfl⟩
theorem d_Mo_type_63 : j_D jm_Mo_type 63 .ireturn 1 64 := ⟨by decide +kernel, rfl⟩
theorem d_Mo_wipe_0 : j_D jm_Mo_wipe 0 (.aload_n 0) 1 1 := ⟨by decide +kernel, rfl⟩
theorem d_Mo_wipe_1 : j_D jm_Mo_wipe 1 (.getfield 151) 3 4 := ⟨by decide +kernel, rfl⟩
theorem d_Mo_wipe_4 : j_D jm_Mo_wipe 4 (.istore_n 1) 1 5 := ⟨by decide +kernel, rfl⟩
theorem d_Mo_wipe_5 : j_D jm_Mo_wipe 5 (.aload_n 0) 1 6 := ⟨by decide +kernel, rfl⟩
theorem d_Mo_wipe_6 : j_D jm_Mo_wipe 6 (.iconst 0) 1 7 := ⟨by decide +kernel, rfl⟩
theorem d_Mo_wipe_7 : j_D jm_Mo_wipe 7 (.putfield 151) 3 10 := ⟨by decide +kernel, rfl⟩
theorem d_Mo_wipe_10 : j_D jm_Mo_wipe 10 (.iload_n 1) 1 11 := ⟨by decide +kernel, rfl⟩
theorem d_Mo_wipe_11 : j_D jm_Mo_wipe 11 .ireturn 1 12 := ⟨by decide +kernel, rfl⟩
theorem d_Mo_character_0 : j_D jm_Mo_character 0 (.iload_n 1) 1 1 := ⟨by decide +kernel, rfl⟩
theorem d_Mo_character_1 : j_D jm_Mo_character 1 (.iconst 0) 1 2 := ⟨by decide +kernel, rfl⟩
theorem d_Mo_character_2 : j_D jm_Mo_character 2 (.aload_n 0) 1 3 := ⟨by decide +kernel, rfl⟩
theorem d_Mo_character_3 : j_D jm_Mo_character 3 (.getfield 151) 3 6 := ⟨by decide +kernel, rfl⟩
theorem d_Mo_character_6 : j_D jm_Mo_character 6 (.iconst 1) 1 7 := ⟨by decide +kernel, rfl⟩
theorem d_Mo_character_7 : j_D jm_Mo_character 7 .isub 1 8 := ⟨by decide +kernel, rfl⟩
theorem d_Mo_character_8 : j_D jm_Mo_character 8 (.invokestatic 88) 3 11 := ⟨by decide +kernel, rfl⟩
theorem d_Mo_character_11 : j_E jm_Mo_character 11 (.ifCond .eq) 12 14 23 := ⟨by decide +kernel, rfl, by decide⟩
theorem d_Mo_character_14 : j_D jm_Mo_character 14 (.aload_n 0) 1 15 := ⟨by decide +kernel, rfl⟩
theorem d_Mo_character_15 : j_D jm_Mo_character 15 (.getfield 61) 3 18 := ⟨by decide +kernel, rfl⟩
theorem d_Mo_character_18 : j_D jm_Mo_character 18 (.iload_n 1) 1 19 := ⟨by decide +kernel, rfl⟩
theorem d_Mo_character_19 : j_D jm_Mo_character 19 .iaload 1 20 := ⟨by decide +kernel, rfl⟩
theorem d_Mo_character_20 : j_E jm_Mo_character 20 .goto 5 23 25 := ⟨by decide +kernel, rfl, by decide⟩
theorem d_Mo_character_23 : j_D jm_Mo_character 23 (.bipush (-3)) 2 25 := ⟨by decide +kernel, rfl⟩
theorem d_Mo_character_25 : j_D jm_Mo_character 25 .ireturn 1 26 := ⟨by decide +kernel, rfl⟩
theorem d_Mo_look_0 : j_D jm_Mo_look 0 (.aload_n 0) 1 1 := ⟨by decide +kernel, rfl⟩
theorem d_Mo_look_1 : j_D jm_Mo_look 1 (.getfield 174) 3 4 := ⟨by decide +kernel, rfl⟩
theorem d_Mo_look_4 : j_D jm_Mo_look 4 (.aload_n 0) 1 5 := ⟨by decide +kernel, rfl⟩
theorem d_Mo_look_5 : j_D jm_Mo_look 5 (.getfield 151) 3 8 := ⟨by decide +kernel, rfl⟩
theorem d_Mo_look_8 : j_E jm_Mo_look 8 (.if_icmp .ge) 15 11 23 := ⟨by decide +kernel, rfl, by decide⟩
theorem d_Mo_look_11 : j_D jm_Mo_look 11 (.aload_n 0) 1 12 := ⟨by decide +kernel, rfl⟩
theorem d_Mo_look_12 : j_D jm_Mo_look 12 (.getfield 61) 3 15 := ⟨by decide +kernel, rfl⟩
theorem d_Mo_look_15 : j_D jm_Mo_look 15 (.aload_n 0) 1 16 := ⟨by decide +kernel, rfl⟩
theorem d_Mo_look_16 : j_D jm_Mo_look 16 (.getfield 174) 3 19 := ⟨by decide +kernel, rfl⟩
theorem d_Mo_look_19 : j_D jm_Mo_look 19 .iaload 1 20 := ⟨by decide +kernel, rfl⟩
theorem d_Mo_look_20 : j_E jm_Mo_look 20 .goto 4 23 24 := ⟨by decide +kernel, rfl, by decide⟩
theorem d_Mo_look_23 : j_D jm_Mo_look 23 (.iconst (-1)) 1 24 := ⟨by decide +kernel, rfl⟩
theorem d_Mo_look_24 : j_D jm_Mo_look 24 .ireturn 1 25 := ⟨by decide +kernel, rfl⟩
theorem d_Mo_want_0 : j_D jm_Mo_want 0 (.aload_n 0) 1 1 := ⟨by decide +kernel, rfl⟩
theorem d_Mo_want_1 : j_D jm_Mo_want 1 (.aload_n 0) 1 2 := ⟨by decide +kernel, rfl⟩
theorem d_Mo_want_2 : j_D jm_Mo_want 2 (.getfield 177) 3 5 := ⟨by decide +kernel, rfl⟩
theorem d_Mo_want_5 : j_E jm_Mo_want 5 (.ifCond .ne) 11 8 16 := ⟨by decide +kernel, rfl, by decide⟩
theorem d_Mo_want_8 : j_D jm_Mo_want 8 (.aload_n 0) 1 9 := ⟨by decide +kernel, rfl⟩
theorem d_Mo_want_9 : j_D jm_Mo_want 9 (.invokevirtual 180) 3 12 := ⟨by decide +kernel, rfl⟩
theorem d_Mo_want_12 : j_D jm_Mo_want 12 (.iload_n 1) 1 13 := ⟨by decide +kernel, rfl⟩
theorem d_Mo_want_13 : j_E jm_Mo_want 13 (.if_icmp .eq) 7 16 20 := ⟨by decide +kernel, rfl, by decide⟩
theorem d_Mo_want_16 : j_D jm_Mo_want 16 (.iconst 1) 1 17 := ⟨by decide +kernel, rfl⟩
theorem d_Mo_want_17 : j_E jm_Mo_want 17 .goto 4 20 21 := ⟨by decide +kernel, rfl, by decide⟩
theorem d_Mo_want_20 : j_D jm_Mo_want 20 (.iconst 0) 1 21 := ⟨by decide +kernel, rfl⟩
theorem d_Mo_want_21 : j_D jm_Mo_want 21 (.putfield 177) 3 24 := ⟨by decide +kernel, rfl⟩
theorem d_Mo_want_24 : j_D jm_Mo_want 24 (.aload_n 0) 1 25 := ⟨by decide +kernel, rfl⟩
theorem d_Mo_want_25 : j_D jm_Mo_want 25 (.aload_n 0) 1 26 := ⟨by decide +kernel, rfl⟩
theorem d_Mo_want_26 : j_D jm_Mo_want 26 (.getfield 177) 3 29 := ⟨by decide +kernel, rfl⟩
theorem d_Mo_want_29 : j_E jm_Mo_want 29 (.ifCond .eq) 10 32 39 := ⟨by decide +kernel, rfl, by decide⟩
theorem d_Mo_want_32 : j_D jm_Mo_want 32 (.aload_n 0) 1 33 := ⟨by decide +kernel, rfl⟩
theorem d_Mo_want_33 : j_D jm_Mo_want 33 (.getfield 174) 3 36 := ⟨by decide +kernel, rfl⟩
theorem d_Mo_want_36 : j_E jm_Mo_want 36 .goto 9 39 45 := ⟨by decide +kernel, rfl, by decide⟩
theorem d_Mo_want_39 : j_D jm_Mo_want 39 (.aload_n 0) 1 40 := ⟨by decide +kernel, rfl⟩
theorem d_Mo_want_40 : j_D jm_Mo_want 40 (.getfield 174) 3 43 := ⟨by decide +kernel, rfl⟩
theorem d_Mo_want_43 : j_D jm_Mo_want 43 (.iconst 1) 1 44 := ⟨by decide +kernel, rfl⟩
theorem d_Mo_want_44 : j_D jm_Mo_want 44 .iadd 1 45 := ⟨by decide +kernel, rfl⟩
theorem d_Mo_want_45 : j_D jm_Mo_want 45 (.putfield 174) 3 48 := ⟨by decide +kernel, rfl⟩
theorem d_Mo_want_48 : j_D jm_Mo_want 48 .return_ 1 49 := ⟨by decide +kernel, rfl⟩
theorem d_Mo_number_0 : j_D jm_Mo_number 0 (.aload_n 0) 1 1 := ⟨by decide +kernel, rfl⟩
theorem d_Mo_number_1 : j_D jm_Mo_number 1 (.getfield 177) 3 4 := ⟨by decide +kernel, rfl⟩
theorem d_Mo_number_4 : j_E jm_Mo_number 4 (.ifCond .ne) 17 7 21 := ⟨by decide +kernel, rfl, by decide⟩
theorem d_Mo_number_7 : j_D jm_Mo_number 7 (.aload_n 0) 1 8 := ⟨by decide +kernel, rfl⟩
theorem d_Mo_number_8 : j_D jm_Mo_number 8 (.invokevirtual 180) 3 11 := ⟨by decide +kernel, rfl⟩
theorem d_Mo_number_11 : j_D jm_Mo_number 11 (.bipush 48) 2 13 := ⟨by decide +kernel, rfl⟩
theorem d_Mo_number_13 : j_D jm_Mo_number 13 (.bipush 57) 2 15 := ⟨by decide +kernel, rfl⟩
theorem d_Mo_number_15 : j_D jm_Mo_number 15 (.invokestatic 88) 3 18 := ⟨by decide +kernel, rfl⟩
theorem d_Mo_number_18 : j_E jm_Mo_number 18 (.ifCond .ne) 10 21 28 := ⟨by decide +kernel, rfl, by decide⟩
theorem d_Mo_number_21 : j_D jm_Mo_number 21 (.aload_n 0) 1 22 := ⟨by decide +kernel, rfl⟩
theorem d_Mo_number_22 : j_D jm_Mo_number 22 (.iconst 1) 1 23 := ⟨by decide +kernel, rfl⟩
theorem d_Mo_number_23 : j_D jm_Mo_number 23 (.putfield 177) 3 26 := ⟨by decide +kernel, rfl⟩
theorem d_Mo_number_26 : j_D jm_Mo_number 26 (.iconst 0) 1 27 := ⟨by decide +kernel, rfl⟩
theorem d_Mo_number_27 : j_D jm_Mo_number 27 .ireturn 1 28 := ⟨by decide +kernel, rfl⟩
theorem d_Mo_number_28 : j_D jm_Mo_number 28 (.aload_n 0) 1 29 := ⟨by decide +kernel, rfl⟩
theorem d_Mo_number_29 : j_D jm_Mo_number 29 (.invokevirtual 180) 3 32 := ⟨by decide +kernel, rfl⟩
theorem d_Mo_number_32 : j_D jm_Mo_number 32 (.bipush 48) 2 34 := ⟨by decide +kernel, rfl⟩
theorem d_Mo_number_34 : j_D jm_Mo_number 34 .isub 1 35 := ⟨by decide +kernel, rfl⟩
theorem d_Mo_number_35 : j_D jm_Mo_number 35 (.istore_n 1) 1 36 := ⟨by decide +kernel, rfl⟩
theorem d_Mo_number_36 : j_D jm_Mo_number 36 (.aload_n 0) 1 37 := ⟨by decide +kernel, rfl⟩
theorem d_Mo_number_37 : j_D jm_Mo_number 37 .dup 1 38 := ⟨by decide +kernel, rfl⟩
theorem d_Mo_number_38 : j_D jm_Mo_number 38 (.getfield 174) 3 41 := ⟨by decide +kernel, rfl⟩
theorem d_Mo_number_41 : j_D jm_Mo_number 41 (.iconst 1) 1 42 := ⟨by decide +kernel, rfl⟩
theorem d_Mo_number_42 : j_D jm_Mo_number 42 .iadd 1 43 := ⟨by decide +kernel, rfl⟩
theorem d_Mo_number_43 : j_D jm_Mo_number 43 (.putfield 174) 3 46 := ⟨by decide +kernel, rfl⟩
theorem d_Mo_number_46 : j_D jm_Mo_number 46 (.iload_n 1) 1 47 := ⟨by decide +kernel, rfl⟩
theorem d_Mo_number_47 : j_E jm_Mo_number 47 (.ifCond .le) 40 50 87 := ⟨by decide +kernel, rfl, by decide⟩
theorem d_Mo_number_50 : j_D jm_Mo_number 50 (.aload_n 0) 1 51 := ⟨by decide +kernel, rfl⟩
theorem d_Mo_number_51 : j_D jm_Mo_number 51 (.invokevirtual 180) 3 54 := ⟨by decide +kernel, rfl⟩
theorem d_Mo_number_54 : j_D jm_Mo_number 54 (.bipush 48) 2 56 := ⟨by decide +kernel, rfl⟩
theorem d_Mo_number_56 : j_D jm_Mo_number 56 (.bipush 57) 2 58 := ⟨by decide +kernel, rfl⟩
theorem d_Mo_number_58 : j_D jm_Mo_number 58 (.invokestatic 88) 3 61 := ⟨by decide +kernel, rfl⟩
theorem d_Mo_number_61 : j_E jm_Mo_number 61 (.ifCond .eq) 26 64 87 := ⟨by decide +kernel, rfl, by decide⟩
theorem d_Mo_number_64 : j_D jm_Mo_number 64 (.bipush 10) 2 66 := ⟨by decide +kernel, rfl⟩
theorem d_Mo_number_66 : j_D jm_Mo_number 66 (.iload_n 1) 1 67 := ⟨by decide +kernel, rfl⟩
theorem d_Mo_number_67 : j_D jm_Mo_number 67 .imul 1 68 := ⟨by decide +kernel, rfl⟩
theorem d_Mo_number_68 : j_D jm_Mo_number 68 (.aload_n 0) 1 69 := ⟨by decide +kernel, rfl⟩
theorem d_Mo_number_69 : j_D jm_Mo_number 69 (.invokevirtual 180) 3 72 := ⟨by decide +kernel, rfl⟩
theorem d_Mo_number_72 : j_D jm_Mo_number 72 .iadd 1 73 := ⟨by decide +kernel, rfl⟩
theorem d_Mo_number_73 : j_D jm_Mo_number 73 (.bipush 48) 2 75 := ⟨by decide +kernel, rfl⟩
theorem d_Mo_number_75 : j_D jm_Mo_number 75 .isub 1 76 := ⟨by decide +kernel, rfl⟩
theorem d_Mo_number_76 : j_D jm_Mo_number 76 (.istore_n 1) 1 77 := ⟨by decide +kernel, rfl⟩
theorem d_Mo_number_77 : j_D jm_Mo_number 77 (.aload_n 0) 1 78 := ⟨by decide +kernel, rfl⟩
theorem d_Mo_number_78 : j_D jm_Mo_number 78 .dup 1 79 := ⟨by decide +kernel, rfl⟩
theorem d_Mo_number_79 : j_D jm_Mo_number 79 (.getfield 174) 3 82 := ⟨by decide +kernel, rfl⟩
theorem d_Mo_number_82 : j_D jm_Mo_number 82 (.iconst 1) 1 83 := ⟨by decide +kernel, rfl⟩
theorem d_Mo_number_83 : j_D jm_Mo_number 83 .iadd 1 84 := ⟨by decide +kernel, rfl⟩
theorem d_Mo_number_84 : j_D jm_Mo_number 84 (.putfield 174) 3 87 := ⟨by decide +kernel, rfl⟩
theorem d_Mo_number_87 : j_D jm_Mo_number 87 (.iload_n 1) 1 88 := ⟨by decide +kernel, rfl⟩
theorem d_Mo_number_88 : j_D jm_Mo_number 88 .ireturn 1 89 := ⟨by decide +kernel, rfl⟩
theorem d_Mo_readHunk_0 : j_D jm_Mo_readHunk 0 (.aload_n 0) 1 1 := ⟨by decide +kernel, rfl⟩
theorem d_Mo_readHunk_1 : j_D jm_Mo_readHunk 1 (.bipush 64) 2 3 := ⟨by decide +kernel, rfl⟩
theorem d_Mo_readHunk_3 : j_D jm_Mo_readHunk 3 (.invokevirtual 184) 3 6 := ⟨by decide +kernel, rfl⟩
theorem d_Mo_readHunk_6 : j_D jm_Mo_readHunk 6 (.aload_n 0) 1 7 := ⟨by decide +kernel, rfl⟩
theorem d_Mo_readHunk_7 : j_D jm_Mo_readHunk 7 (.getfield 64) 3 10 := ⟨by decide +kernel, rfl⟩
theorem d_Mo_readHunk_10 : j_D jm_Mo_readHunk 10 (.aload_n 0) 1 11 := ⟨by decide +kernel, rfl⟩
theorem d_Mo_readHunk_11 : j_D jm_Mo_readHunk 11 (.getfield 187) 3 14 := ⟨by decide +kernel, rfl⟩
theorem d_Mo_readHunk_14 : j_D jm_Mo_readHunk 14 (.aload_n 0) 1 15 := ⟨by decide +kernel, rfl⟩
theorem d_Mo_readHunk_15 : j_D jm_Mo_readHunk 15 (.invokevirtual 190) 3 18 := ⟨by decide +kernel, rfl⟩
theorem d_Mo_readHunk_18 : j_D jm_Mo_readHunk 18 .iastore 1 19 := ⟨by decide +kernel, rfl⟩
theorem d_Mo_readHunk_19 : j_D jm_Mo_readHunk 19 (.aload_n 0) 1 20 := ⟨by decide +kernel, rfl⟩
theorem d_Mo_readHunk_20 : j_D jm_Mo_readHunk 20 (.bipush 44) 2 22 := ⟨by decide +kernel, rfl⟩
theorem d_Mo_readHunk_22 : j_D jm_Mo_readHunk 22 (.invokevirtual 184) 3 25 := ⟨by decide +kernel, rfl⟩
theorem d_Mo_readHunk_25 : j_D jm_Mo_readHunk 25 (.aload_n 0) 1 26 := ⟨by decide +kernel, rfl⟩
theorem d_Mo_readHunk_26 : j_D jm_Mo_readHunk 26 (.invokevirtual 190) 3 29 := ⟨by decide +kernel, rfl⟩
theorem d_Mo_readHunk_29 : j_D jm_Mo_readHunk 29 (.istore_n 1) 1 30 := ⟨by decide +kernel, rfl⟩
theorem d_Mo_readHunk_30 : j_D jm_Mo_readHunk 30 (.aload_n 0) 1 31 := ⟨by decide +kernel, rfl⟩
theorem d_Mo_readHunk_31 : j_D jm_Mo_readHunk 31 (.bipush 32) 2 33 := ⟨by decide +kernel, rfl⟩
theorem d_Mo_readHunk_33 : j_D jm_Mo_readHunk 33 (.invokevirtual 184) 3 36 := ⟨by decide +kernel, rfl⟩
theorem d_Mo_readHunk_36 : j_D jm_Mo_readHunk 36 (.aload_n 0) 1 37 := ⟨by decide +kernel, rfl⟩
theorem d_Mo_readHunk_37 : j_D jm_Mo_readHunk 37 (.invokevirtual 190) 3 40 := ⟨by decide +kernel, rfl⟩
theorem d_Mo_readHunk_40 : j_D jm_Mo_readHunk 40 .pop 1 41 := ⟨by decide +kernel, rfl⟩
theorem d_Mo_readHunk_41 : j_D jm_Mo_readHunk 41 (.aload_n 0) 1 42 := ⟨by decide +kernel, rfl⟩
theorem d_Mo_readHunk_42 : j_D jm_Mo_readHunk 42 (.bipush 44) 2 44 := ⟨by decide +kernel, rfl⟩
theorem d_Mo_readHunk_44 : j_D jm_Mo_readHunk 44 (.invokevirtual 184) 3 47 := ⟨by decide +kernel, rfl⟩
theorem d_Mo_readHunk_47 : j_D jm_Mo_readHunk 47 (.aload_n 0) 1 48 := ⟨by decide +kernel, rfl⟩
theorem d_Mo_readHunk_48 : j_D jm_Mo_readHunk 48 (.invokevirtual 190) 3 51 := ⟨by decide +kernel, rfl⟩
theorem d_Mo_readHunk_51 : j_D jm_Mo_readHunk 51 (.istore_n 2) 1 52 := ⟨by decide +kernel, rfl⟩
theorem d_Mo_readHunk_52 : j_D jm_Mo_readHunk 52 (.aload_n 0) 1 53 := ⟨by decide +kernel, rfl⟩
theorem d_Mo_readHunk_53 : j_D jm_Mo_readHunk 53 (.aload_n 0) 1 54 := ⟨by decide +kernel, rfl⟩
theorem d_Mo_readHunk_54 : j_D jm_Mo_readHunk 54 (.getfield 177) 3 57 := ⟨by decide +kernel, rfl⟩
theorem d_Mo_readHunk_57 : j_E jm_Mo_readHunk 57 (.ifCond .ne) 11 60 68 := ⟨by decide +kernel, rfl, by decide⟩
theorem d_Mo_readHunk_60 : j_D jm_Mo_readHunk 60 (.iload_n 1) 1 61 := ⟨by decide +kernel, rfl⟩
theorem d_Mo_readHunk_61 : j_E jm_Mo_readHunk 61 (.ifCond .ne) 11 64 72 := ⟨by decide +kernel, rfl, by decide⟩
theorem d_Mo_readHunk_64 : j_D jm_Mo_readHunk 64 (.iload_n 2) 1 65 := ⟨by decide +kernel, rfl⟩
theorem d_Mo_readHunk_65 : j_E jm_Mo_readHunk 65 (.ifCond .ne) 7 68 72 := ⟨by decide +kernel, rfl, by decide⟩
theorem d_Mo_readHunk_68 : j_D jm_Mo_readHunk 68 (.iconst 1) 1 69 := ⟨by decide +kernel, rfl⟩
theorem d_Mo_readHunk_69 : j_E jm_Mo_readHunk 69 .goto 4 72 73 := ⟨by decide +kernel, rfl, by decide⟩
theorem d_Mo_readHunk_72 : j_D jm_Mo_readHunk 72 (.iconst 0) 1 73 := ⟨by decide +kernel, rfl⟩
theorem d_Mo_readHunk_73 : j_D jm_Mo_readHunk 73 (.putfield 177) 3 76 := ⟨by decide +kernel, rfl⟩
theorem d_Mo_readHunk_76 : j_D jm_Mo_readHunk 76 (.aload_n 0) 1 77 := ⟨by decide +kernel, rfl⟩
theorem d_Mo_readHunk_77 : j_D jm_Mo_readHunk 77 (.bipush 10) 2 79 := ⟨by decide +kernel, rfl⟩
theorem d_Mo_readHunk_79 : j_D jm_Mo_readHunk 79 (.invokevirtual 184) 3 82 := ⟨by decide +kernel, rfl⟩
theorem d_Mo_readHunk_82 : j_D jm_Mo_readHunk 82 (.aload_n 0) 1 83 := ⟨by decide +kernel, rfl⟩
theorem d_Mo_readHunk_83 : j_D jm_Mo_readHunk 83 (.getfield 67) 3 86 := ⟨by decide +kernel, rfl⟩
theorem d_Mo_readHunk_86 : j_D jm_Mo_readHunk 86 (.aload_n 0) 1 87 := ⟨by decide +kernel, rfl⟩
theorem d_Mo_readHunk_87 : j_D jm_Mo_readHunk 87 (.getfield 187) 3 90 := ⟨by decide +kernel, rfl⟩
theorem d_Mo_readHunk_90 : j_D jm_Mo_readHunk 90 (.iload_n 1) 1 91 := ⟨by decide +kernel, rfl⟩
theorem d_Mo_readHunk_91 : j_D jm_Mo_readHunk 91 .iastore 1 92 := ⟨by decide +kernel, rfl⟩
theorem d_Mo_readHunk_92 : j_D jm_Mo_readHunk 92 (.aload_n 0) 1 93 := ⟨by decide +kernel, rfl⟩
theorem d_Mo_readHunk_93 : j_D jm_Mo_readHunk 93 (.getfield 70) 3 96 := ⟨by decide +kernel, rfl⟩
theorem d_Mo_readHunk_96 : j_D jm_Mo_readHunk 96 (.aload_n 0) 1 97 := ⟨by decide +kernel, rfl⟩
theorem d_Mo_readHunk_97 : j_D jm_Mo_readHunk 97 (.getfield 187) 3 100 := ⟨by decide +kernel, rfl⟩
theorem d_Mo_readHunk_100 : j_D jm_Mo_readHunk 100 (.iload_n 2) 1 101 := ⟨by decide +kernel, rfl⟩
theorem d_Mo_readHunk_101 : j_D jm_Mo_readHunk 101 .iastore 1 102 := ⟨by decide +kernel, rfl⟩
theorem d_Mo_readHunk_102 : j_D jm_Mo_readHunk 102 (.aload_n 0) 1 103 := ⟨by decide +kernel, rfl⟩
theorem d_Mo_readHunk_103 : j_D jm_Mo_readHunk 103 (.getfield 76) 3 106 := ⟨by decide +kernel, rfl⟩
theorem d_Mo_readHunk_106 : j_D jm_Mo_readHunk 106 (.aload_n 0) 1 107 := ⟨by decide +kernel, rfl⟩
theorem d_Mo_readHunk_107 : j_D jm_Mo_readHunk 107 (.getfield 187) 3 110 := ⟨by decide +kernel, rfl⟩
theorem d_Mo_readHunk_110 : j_D jm_Mo_readHunk 110 (.aload_n 0) 1 111 := ⟨by decide +kernel, rfl⟩
theorem d_Mo_readHunk_111 : j_D jm_Mo_readHunk 111 (.getfield 174) 3 114 := ⟨by decide +kernel, rfl⟩
theorem d_Mo_readHunk_114 : j_D jm_Mo_readHunk 114 .iastore 1 115 := ⟨by decide +kernel, rfl⟩
theorem d_Mo_readHunk_115 : j_D jm_Mo_readHunk 115 (.iconst 0) 1 116 := ⟨by decide +kernel, rfl⟩
theorem d_Mo_readHunk_116 : j_D jm_Mo_readHunk 116 (.istore_n 3) 1 117 := ⟨by decide +kernel, rfl⟩
theorem d_Mo_readHunk_117 : j_D jm_Mo_readHunk 117 (.aload_n 0) 1 118 := ⟨by decide +kernel, rfl⟩
theorem d_Mo_readHunk_118 : j_D jm_Mo_readHunk 118 (.getfield 177) 3 121 := ⟨by decide +kernel, rfl⟩
theorem d_Mo_readHunk_121 : j_E jm_Mo_readHunk 121 (.ifCond .ne) 215 124 336 := ⟨by decide +kernel, rfl, by decide⟩
theorem d_Mo_readHunk_124 : j_D jm_Mo_readHunk 124 (.iload_n 1) 1 125 := ⟨by decide +kernel, rfl⟩
theorem d_Mo_readHunk_125 : j_E jm_Mo_readHunk 125 (.ifCond .gt) 7 128 132 := ⟨by decide +kernel, rfl, by decide⟩
theorem d_Mo_readHunk_128 : j_D jm_Mo_readHunk 128 (.iload_n 2) 1 129 := ⟨by decide +kernel, rfl⟩
theorem d_Mo_readHunk_129 : j_E jm_Mo_readHunk 129 (.ifCond .le) 207 132 336 := ⟨by decide +kernel, rfl, by decide⟩
theorem d_Mo_readHunk_132 : j_D jm_Mo_readHunk 132 (.aload_n 0) 1 133 := ⟨by decide +kernel, rfl⟩
theorem d_Mo_readHunk_133 : j_D jm_Mo_readHunk 133 (.invokevirtual 180) 3 136 := ⟨by decide +kernel, rfl⟩
theorem d_Mo_readHunk_136 : j_D jm_Mo_readHunk 136 (.istore 4) 2 138 := ⟨by decide +kernel, rfl⟩
theorem d_Mo_readHunk_138 : j_D jm_Mo_readHunk 138 (.iload 4) 2 140 := ⟨by decide +kernel, rfl⟩
theorem d_Mo_readHunk_140 : j_D jm_Mo_readHunk 140 (.bipush 32) 2 142 := ⟨by decide +kernel, rfl⟩
theorem d_Mo_readHunk_142 : j_E jm_Mo_readHunk 142 (.if_icmp .ne) 19 145 161 := ⟨by decide +kernel, rfl, by decide⟩
theorem d_Mo_readHunk_145 : j_D jm_Mo_readHunk 145 (.iload_n 1) 1 146 := ⟨by decide +kernel, rfl⟩
theorem d_Mo_readHunk_146 : j_E jm_Mo_readHunk 146 (.ifCond .le) 11 149 157 := ⟨by decide +kernel, rfl, by decide⟩
theorem d_Mo_readHunk_149 : j_D jm_Mo_readHunk 149 (.iload_n 2) 1 150 := ⟨by decide +kernel, rfl⟩
theorem d_Mo_readHunk_150 : j_E jm_Mo_readHunk 150 (.ifCond .le) 7 153 157 := ⟨by decide +kernel, rfl, by decide⟩
theorem d_Mo_readHunk_153 : j_D jm_Mo_readHunk 153 (.iconst 1) 1 154 := ⟨by decide +kernel, rfl⟩
theorem d_Mo_readHunk_154 : j_E jm_Mo_readHunk 154 .goto 42 157 196 := ⟨by decide +kernel, rfl, by decide⟩
theorem d_Mo_readHunk_157 : j_D jm_Mo_readHunk 157 (.iconst 0) 1 158 := ⟨by decide +kernel, rfl⟩
theorem d_Mo_readHunk_158 : j_E jm_Mo_readHunk 158 .goto 38 161 196 := ⟨by decide +kernel, rfl, by decide⟩
theorem d_Mo_readHunk_161 : j_D jm_Mo_readHunk 161 (.iload 4) 2 163 := ⟨by decide +kernel, rfl⟩
theorem d_Mo_readHunk_163 : j_D jm_Mo_readHunk 163 (.bipush 45) 2 165 := ⟨by decide +kernel, rfl⟩
theorem d_Mo_readHunk_165 : j_E jm_Mo_readHunk 165 (.if_icmp .ne) 15 168 180 := ⟨by decide +kernel, rfl, by decide⟩
theorem d_Mo_readHunk_168 : j_D jm_Mo_readHunk 168 (.iload_n 1) 1 169 := ⟨by decide +kernel, rfl⟩
theorem d_Mo_readHunk_169 : j_E jm_Mo_readHunk 169 (.ifCond .le) 7 172 176 := ⟨by decide +kernel, rfl, by decide⟩
theorem d_Mo_readHunk_172 : j_D jm_Mo_readHunk 172 (.iconst 1) 1 173 := ⟨by decide +kernel, rfl⟩
theorem d_Mo_readHunk_173 : j_E jm_Mo_readHunk 173 .goto 23 176 196 := ⟨by decide +kernel, rfl, by decide⟩
theorem d_Mo_readHunk_176 : j_D jm_Mo_readHunk 176 (.iconst 0) 1 177 := ⟨by decide +kernel, rfl⟩
theorem d_Mo_readHunk_177 : j_E jm_Mo_readHunk 177 .goto 19 180 196 := ⟨by decide +kernel, rfl, by decide⟩
theorem d_Mo_readHunk_180 : j_D jm_Mo_readHunk 180 (.iload 4) 2 182 := ⟨by decide +kernel, rfl⟩
theorem d_Mo_readHunk_182 : j_D jm_Mo_readHunk 182 (.bipush 43) 2 184 := ⟨by decide +kernel, rfl⟩
theorem d_Mo_readHunk_184 : j_E jm_Mo_readHunk 184 (.if_icmp .ne) 11 187 195 := ⟨by decide +kernel, rfl, by decide⟩
theorem d_Mo_readHunk_187 : j_D jm_Mo_readHunk 187 (.iload_n 2) 1 188 := ⟨by decide +kernel, rfl⟩
theorem d_Mo_readHunk_188 : j_E jm_Mo_readHunk 188 (.ifCond .le) 7 191 195 := ⟨by decide +kernel, rfl, by decide⟩
theorem d_Mo_readHunk_191 : j_D jm_Mo_readHunk 191 (.iconst 1) 1 192 := ⟨by decide +kernel, rfl⟩
theorem d_Mo_readHunk_192 : j_E jm_Mo_readHunk 192 .goto 4 195 196 := ⟨by decide +kernel, rfl, by decide⟩
theorem d_Mo_readHunk_195 : j_D jm_Mo_readHunk 195 (.iconst 0) 1 196 := ⟨by decide +kernel, rfl⟩
theorem d_Mo_readHunk_196 : j_D jm_Mo_readHunk 196 (.istore 5) 2 198 := ⟨by decide +kernel, rfl⟩
theorem d_Mo_readHunk_198 : j_D jm_Mo_readHunk 198 (.aload_n 0) 1 199 := ⟨by decide +kernel, rfl⟩
theorem d_Mo_readHunk_199 : j_D jm_Mo_readHunk 199 (.iload 5) 2 201 := ⟨by decide +kernel, rfl⟩
theorem d_Mo_readHunk_201 : j_E jm_Mo_readHunk 201 (.ifCond .ne) 7 204 208 := ⟨by decide +kernel, rfl, by decide⟩
theorem d_Mo_readHunk_204 : j_D jm_Mo_readHunk 204 (.iconst 1) 1 205 := ⟨by decide +kernel, rfl⟩
theorem d_Mo_readHunk_205 : j_E jm_Mo_readHunk 205 .goto 4 208 209 := ⟨by decide +kernel, rfl, by decide⟩
theorem d_Mo_readHunk_208 : j_D jm_Mo_readHunk 208 (.iconst 0) 1 209 := ⟨by decide +kernel, rfl⟩
theorem d_Mo_readHunk_209 : j_D jm_Mo_readHunk 209 (.putfield 177) 3 212 := ⟨by decide +kernel, rfl⟩
theorem d_Mo_readHunk_212 : j_D jm_Mo_readHunk 212 (.iload 5) 2 214 := ⟨by decide +kernel, rfl⟩
theorem d_Mo_readHunk_214 : j_E jm_Mo_readHunk 214 (.ifCond .eq) 16 217 230 := ⟨by decide +kernel, rfl, by decide⟩
theorem d_Mo_readHunk_217 : j_D jm_Mo_readHunk 217 (.iload 4) 2 219 := ⟨by decide +kernel, rfl⟩
theorem d_Mo_readHunk_219 : j_D jm_Mo_readHunk 219 (.bipush 43) 2 221 := ⟨by decide +kernel, rfl⟩
theorem d_Mo_readHunk_221 : j_E jm_Mo_readHunk 221 (.if_icmp .eq) 9 224 230 := ⟨by decide +kernel, rfl, by decide⟩
theorem d_Mo_readHunk_224 : j_D jm_Mo_readHunk 224 (.iload_n 1) 1 225 := ⟨by decide +kernel, rfl⟩
theorem d_Mo_readHunk_225 : j_D jm_Mo_readHunk 225 (.iconst 1) 1 226 := ⟨by decide +kernel, rfl⟩
theorem d_Mo_readHunk_226 : j_D jm_Mo_readHunk 226 .isub 1 227 := ⟨by decide +kernel, rfl⟩
theorem d_Mo_readHunk_227 : j_E jm_Mo_readHunk 227 .goto 4 230 231 := ⟨by decide +kernel, rfl, by decide⟩
theorem d_Mo_readHunk_230 : j_D jm_Mo_readHunk 230 (.iload_n 1) 1 231 := ⟨by decide +kernel, rfl⟩
theorem d_Mo_readHunk_231 : j_D jm_Mo_readHunk 231 (.istore_n 1) 1 232 := ⟨by decide +kernel, rfl⟩
theorem d_Mo_readHunk_232 : j_D jm_Mo_readHunk 232 (.iload 5) 2 234 := ⟨by decide +kernel, rfl⟩
theorem d_Mo_readHunk_234 : j_E jm_Mo_readHunk 234 (.ifCond .eq) 16 237 250 := ⟨by decide +kernel, rfl, by decide⟩
theorem d_Mo_readHunk_237 : j_D jm_Mo_readHunk 237 (.iload 4) 2 239 := ⟨by decide +kernel, rfl⟩
theorem d_Mo_readHunk_239 : j_D jm_Mo_readHunk 239 (.bipush 45) 2 241 := ⟨by decide +kernel, rfl⟩
theorem d_Mo_readHunk_241 : j_E jm_Mo_readHunk 241 (.if_icmp .eq) 9 244 250 := ⟨by decide +kernel, rfl, by decide⟩
theorem d_Mo_readHunk_244 : j_D jm_Mo_readHunk 244 (.iload_n 2) 1 245 := ⟨by decide +kernel, rfl⟩
theorem d_Mo_readHunk_245 : j_D jm_Mo_readHunk 245 (.iconst 1) 1 246 := ⟨by decide +kernel, rfl⟩
theorem d_Mo_readHunk_246 : j_D jm_Mo_readHunk 246 .isub 1 247 := ⟨by decide +kernel, rfl⟩
theorem d_Mo_readHunk_247 : j_E jm_Mo_readHunk 247 .goto 4 250 251 := ⟨by decide +kernel, rfl, by decide⟩
theorem d_Mo_readHunk_250 : j_D jm_Mo_readHunk 250 (.iload_n 2) 1 251 := ⟨by decide +kernel, rfl⟩
theorem d_Mo_readHunk_251 : j_D jm_Mo_readHunk 251 (.istore_n 2) 1 252 := ⟨by decide +kernel, rfl⟩
theorem d_Mo_readHunk_252 : j_D jm_Mo_readHunk 252 (.aload_n 0) 1 253 := ⟨by decide +kernel, rfl⟩
theorem d_Mo_readHunk_253 : j_D jm_Mo_readHunk 253 (.iload 5) 2 255 := ⟨by decide +kernel, rfl⟩
theorem d_Mo_readHunk_255 : j_E jm_Mo_readHunk 255 (.ifCond .eq) 12 258 267 := ⟨by decide +kernel, rfl, by decide⟩
theorem d_Mo_readHunk_258 : j_D jm_Mo_readHunk 258 (.aload_n 0) 1 259 := ⟨by decide +kernel, rfl⟩
theorem d_Mo_readHunk_259 : j_D jm_Mo_readHunk 259 (.getfield 174) 3 262 := ⟨by decide +kernel, rfl⟩
theorem d_Mo_readHunk_262 : j_D jm_Mo_readHunk 262 (.iconst 1) 1 263 := ⟨by decide +kernel, rfl⟩
theorem d_Mo_readHunk_263 : j_D jm_Mo_readHunk 263 .iadd 1 264 := ⟨by decide +kernel, rfl⟩
theorem d_Mo_readHunk_264 : j_E jm_Mo_readHunk 264 .goto 7 267 271 := ⟨by decide +kernel, rfl, by decide⟩
theorem d_Mo_readHunk_267 : j_D jm_Mo_readHunk 267 (.aload_n 0) 1 268 := ⟨by decide +kernel, rfl⟩
theorem d_Mo_readHunk_268 : j_D jm_Mo_readHunk 268 (.getfield 174) 3 271 := ⟨by decide +kernel, rfl⟩
theorem d_Mo_readHunk_271 : j_D jm_Mo_readHunk 271 (.putfield 174) 3 274 := ⟨by decide +kernel, rfl⟩
theorem d_Mo_readHunk_274 : j_D jm_Mo_readHunk 274 (.aload_n 0) 1 275 := ⟨by decide +kernel, rfl⟩
theorem d_Mo_readHunk_275 : j_D jm_Mo_readHunk 275 (.aload_n 0) 1 276 := ⟨by decide +kernel, rfl⟩
theorem d_Mo_readHunk_276 : j_D jm_Mo_readHunk 276 (.getfield 177) 3 279 := ⟨by decide +kernel, rfl⟩
theorem d_Mo_readHunk_279 : j_E jm_Mo_readHunk 279 (.ifCond .ne) 13 282 292 := ⟨by decide +kernel, rfl, by decide⟩
theorem d_Mo_readHunk_282 : j_D jm_Mo_readHunk 282 (.aload_n 0) 1 283 := ⟨by decide +kernel, rfl⟩
theorem d_Mo_readHunk_283 : j_D jm_Mo_readHunk 283 (.invokevirtual 180) 3 286 := ⟨by decide +kernel, rfl⟩
theorem d_Mo_readHunk_286 : j_D jm_Mo_readHunk 286 (.invokestatic 92) 3 289 := ⟨by decide +kernel, rfl⟩
theorem d_Mo_readHunk_289 : j_E jm_Mo_readHunk 289 (.ifCond .ne) 7 292 296 := ⟨by decide +kernel, rfl, by decide⟩
theorem d_Mo_readHunk_292 : j_D jm_Mo_readHunk 292 (.iconst 1) 1 293 := ⟨by decide +kernel, rfl⟩
theorem d_Mo_readHunk_293 : j_E jm_Mo_readHunk 293 .goto 4 296 297 := ⟨by decide +kernel, rfl, by decide⟩
theorem d_Mo_readHunk_296 : j_D jm_Mo_readHunk 296 (.iconst 0) 1 297 := ⟨by decide +kernel, rfl⟩
theorem d_Mo_readHunk_297 : j_D jm_Mo_readHunk 297 (.putfield 177) 3 300 := ⟨by decide +kernel, rfl⟩
theorem d_Mo_readHunk_300 : j_D jm_Mo_readHunk 300 (.aload_n 0) 1 301 := ⟨by decide +kernel, rfl⟩
theorem d_Mo_readHunk_301 : j_D jm_Mo_readHunk 301 (.aload_n 0) 1 302 := ⟨by decide +kernel, rfl⟩
theorem d_Mo_readHunk_302 : j_D jm_Mo_readHunk 302 (.getfield 177) 3 305 := ⟨by decide +kernel, rfl⟩
theorem d_Mo_readHunk_305 : j_E jm_Mo_readHunk 305 (.ifCond .eq) 10 308 315 := ⟨by decide +kernel, rfl, by decide⟩
theorem d_Mo_readHunk_308 : j_D jm_Mo_readHunk 308 (.aload_n 0) 1 309 := ⟨by decide +kernel, rfl⟩
theorem d_Mo_readHunk_309 : j_D jm_Mo_readHunk 309 (.getfield 174) 3 312 := ⟨by decide +kernel, rfl⟩
theorem d_Mo_readHunk_312 : j_E jm_Mo_readHunk 312 .goto 9 315 321 := ⟨by decide +kernel, rfl, by decide⟩
theorem d_Mo_readHunk_315 : j_D jm_Mo_readHunk 315 (.aload_n 0) 1 316 := ⟨by decide +kernel, rfl⟩
theorem d_Mo_readHunk_316 : j_D jm_Mo_readHunk 316 (.getfield 174) 3 319 := ⟨by decide +kernel, rfl⟩
theorem d_Mo_readHunk_319 : j_D jm_Mo_readHunk 319 (.iconst 1) 1 320 := ⟨by decide +kernel, rfl⟩
theorem d_Mo_readHunk_320 : j_D jm_Mo_readHunk 320 .iadd 1 321 := ⟨by decide +kernel, rfl⟩
theorem d_Mo_readHunk_321 : j_D jm_Mo_readHunk 321 (.putfield 174) 3 324 := ⟨by decide +kernel, rfl⟩
theorem d_Mo_readHunk_324 : j_D jm_Mo_readHunk 324 (.aload_n 0) 1 325 := ⟨by decide +kernel, rfl⟩
theorem d_Mo_readHunk_325 : j_D jm_Mo_readHunk 325 (.bipush 10) 2 327 := ⟨by decide +kernel, rfl⟩
theorem d_Mo_readHunk_327 : j_D jm_Mo_readHunk 327 (.invokevirtual 184) 3 330 := ⟨by decide +kernel, rfl⟩
theorem d_Mo_readHunk_330 : j_D jm_Mo_readHunk 330 (.iinc 3 1) 3 333 := ⟨by decide +kernel, rfl⟩
theorem d_Mo_readHunk_333 : j_E jm_Mo_readHunk 333 .goto (-216) 336 117 := ⟨by decide +kernel, rfl, by decide⟩
theorem d_Mo_readHunk_336 : j_D jm_Mo_readHunk 336 (.aload_n 0) 1 337 := ⟨by decide +kernel, rfl⟩
theorem d_Mo_readHunk_337 : j_D jm_Mo_readHunk 337 (.getfield 73) 3 340 := ⟨by decide +kernel, rfl⟩
theorem d_Mo_readHunk_340 : j_D jm_Mo_readHunk 340 (.aload_n 0) 1 341 := ⟨by decide +kernel, rfl⟩
theorem d_Mo_readHunk_341 : j_D jm_Mo_readHunk 341 (.getfield 187) 3 344 := ⟨by decide +kernel, rfl⟩
theorem d_Mo_readHunk_344 : j_D jm_Mo_readHunk 344 (.iload_n 3) 1 345 := ⟨by decide +kernel, rfl⟩
theorem d_Mo_readHunk_345 : j_D jm_Mo_readHunk 345 .iastore 1 346 := ⟨by decide +kernel, rfl⟩
theorem d_Mo_readHunk_346 : j_D jm_Mo_readHunk 346 (.aload_n 0) 1 347 := ⟨by decide +kernel, rfl⟩
theorem d_Mo_readHunk_347 : j_D jm_Mo_readHunk 347 .dup 1 348 := ⟨by decide +kernel, rfl⟩
theorem d_Mo_readHunk_348 : j_D jm_Mo_readHunk 348 (.getfield 187) 3 351 := ⟨by decide +kernel, rfl⟩
theorem d_Mo_readHunk_351 : j_D jm_Mo_readHunk 351 (.iconst 1) 1 352 := ⟨by decide +kernel, rfl⟩
theorem d_Mo_readHunk_352 : j_D jm_Mo_readHunk 352 .iadd 1 353 := ⟨by decide +kernel, rfl⟩
theorem d_Mo_readHunk_353 : j_D jm_Mo_readHunk 353 (.putfield 187) 3 356 := ⟨by decide +kernel, rfl⟩
theorem d_Mo_readHunk_356 : j_D jm_Mo_readHunk 356 .return_ 1 357 := ⟨by decide +kernel, rfl⟩
theorem d_Mo_read_0 : j_D jm_Mo_read 0 (.aload_n 0) 1 1 := ⟨by decide +kernel, rfl⟩
theorem d_Mo_read_1 : j_D jm_Mo_read 1 (.iconst 0) 1 2 := ⟨by decide +kernel, rfl⟩
theorem d_Mo_read_2 : j_D jm_Mo_read 2 (.putfield 174) 3 5 := ⟨by decide +kernel, rfl⟩
theorem d_Mo_read_5 : j_D jm_Mo_read 5 (.aload_n 0) 1 6 := ⟨by decide +kernel, rfl⟩
theorem d_Mo_read_6 : j_D jm_Mo_read 6 (.iconst 0) 1 7 := ⟨by decide +kernel, rfl⟩
theorem d_Mo_read_7 : j_D jm_Mo_read 7 (.putfield 187) 3 10 := ⟨by decide +kernel, rfl⟩
theorem d_Mo_read_10 : j_D jm_Mo_read 10 (.aload_n 0) 1 11 := ⟨by decide +kernel, rfl⟩
theorem d_Mo_read_11 : j_D jm_Mo_read 11 (.iconst 0) 1 12 := ⟨by decide +kernel, rfl⟩
theorem d_Mo_read_12 : j_D jm_Mo_read 12 (.putfield 177) 3 15 := ⟨by decide +kernel, rfl⟩
theorem d_Mo_read_15 : j_D jm_Mo_read 15 (.aload_n 0) 1 16 := ⟨by decide +kernel, rfl⟩
theorem d_Mo_read_16 : j_D jm_Mo_read 16 (.getfield 174) 3 19 := ⟨by decide +kernel, rfl⟩
theorem d_Mo_read_19 : j_D jm_Mo_read 19 (.aload_n 0) 1 20 := ⟨by decide +kernel, rfl⟩
theorem d_Mo_read_20 : j_D jm_Mo_read 20 (.getfield 151) 3 23 := ⟨by decide +kernel, rfl⟩
theorem d_Mo_read_23 : j_E jm_Mo_read 23 (.if_icmp .ge) 17 26 40 := ⟨by decide +kernel, rfl, by decide⟩
theorem d_Mo_read_26 : j_D jm_Mo_read 26 (.aload_n 0) 1 27 := ⟨by decide +kernel, rfl⟩
theorem d_Mo_read_27 : j_D jm_Mo_read 27 (.getfield 177) 3 30 := ⟨by decide +kernel, rfl⟩
theorem d_Mo_read_30 : j_E jm_Mo_read 30 (.ifCond .ne) 10 33 40 := ⟨by decide +kernel, rfl, by decide⟩
theorem d_Mo_read_33 : j_D jm_Mo_read 33 (.aload_n 0) 1 34 := ⟨by decide +kernel, rfl⟩
theorem d_Mo_read_34 : j_D jm_Mo_read 34 (.invokevirtual 193) 3 37 := ⟨by decide +kernel, rfl⟩
theorem d_Mo_read_37 : j_E jm_Mo_read 37 .goto (-22) 40 15 := ⟨by decide +kernel, rfl, by decide⟩
theorem d_Mo_read_40 : j_D jm_Mo_read 40 (.aload_n 0) 1 41 := ⟨by decide +kernel, rfl⟩
theorem d_Mo_read_41 : j_D jm_Mo_read 41 (.getfield 177) 3 44 := ⟨by decide +kernel, rfl⟩
theorem d_Mo_read_44 : j_E jm_Mo_read 44 (.ifCond .eq) 10 47 54 := ⟨by decide +kernel, rfl, by decide⟩
theorem d_Mo_read_47 : j_D jm_Mo_read 47 (.aload_n 0) 1 48 := ⟨by decide +kernel, rfl⟩
theorem d_Mo_read_48 : j_D jm_Mo_read 48 (.getfield 174) 3 51 := ⟨by decide +kernel, rfl⟩
theorem d_Mo_read_51 : j_E jm_Mo_read 51 .goto 4 54 55 := ⟨by decide +kernel, rfl, by decide⟩
theorem d_Mo_read_54 : j_D jm_Mo_read 54 (.iconst (-1)) 1 55 := ⟨by decide +kernel, rfl⟩
theorem d_Mo_read_55 : j_D jm_Mo_read 55 .ireturn 1 56 := ⟨by decide +kernel, rfl⟩
theorem f_Mo_55 : j_F "LinePatcherModel" 55 8 22 22 true := ⟨rfl, _, "LinePatcherModel", rfl, by decide, rfl, Or.inl (by decide +kernel), Or.inl rfl⟩
theorem f_Mo_145 : j_F "LinePatcherModel" 145 8 21 21 false := ⟨rfl, _, "LinePatcherModel", rfl, by decide, rfl, Or.inl (by decide +kernel), Or.inl rfl⟩
theorem f_Mo_58 : j_F "LinePatcherModel" 58 8 23 23 true := ⟨rfl, _, "LinePatcherModel", rfl, by decide, rfl, Or.inl (by decide +kernel), Or.inl rfl⟩
theorem lc_Mo_op : j_Lc jm_Mo_op 2 := ⟨by decide +kernel, by decide +kernel, by decide, by decide +kernel, by decide⟩
theorem c_Mo_148 : j_Lv "LinePatcherModel" 148 8 jm_Mo_op 2 := ⟨by decide +kernel, by decide +kernel, ⟨_, rfl, by decide +kernel⟩, lc_Mo_op⟩
theorem f_Mo_61 : j_F "LinePatcherModel" 61 8 25 25 true := ⟨rfl, _, "LinePatcherModel", rfl, by decide, rfl, Or.inl (by decide +kernel), Or.inl rfl⟩
theorem f_Mo_151 : j_F "LinePatcherModel" 151 8 24 24 false := ⟨rfl, _, "LinePatcherModel", rfl, by decide, rfl, Or.inl (by decide +kernel), Or.inl rfl⟩
theorem lc_Mo_put : j_Lc jm_Mo_put 1 := ⟨by decide +kernel, by decide +kernel, by decide, by decide +kernel, by decide⟩
theorem c_Mo_154 : j_Lv "LinePatcherModel" 154 8 jm_Mo_put 1 := ⟨by decide +kernel, by decide +kernel, ⟨_, rfl, by decide +kernel⟩, lc_Mo_put⟩
theorem lc_Mo_others : j_Lc jm_Mo_others 3 := ⟨by decide +kernel, by decide +kernel, by decide, by decide +kernel, by decide⟩
theorem c_Mo_157 : j_Lv "LinePatcherModel" 157 8 jm_Mo_others 3 := ⟨by decide +kernel, by decide +kernel, ⟨_, rfl, by decide +kernel⟩, lc_Mo_others⟩
theorem lc_Mo_putNumber : j_Lc jm_Mo_putNumber 1 := ⟨by decide +kernel, by decide +kernel, by decide, by decide +kernel, by decide⟩
theorem c_Mo_161 : j_Lv "LinePatcherModel" 161 8 jm_Mo_putNumber 1 := ⟨by decide +kernel, by decide +kernel, ⟨_, rfl, by decide +kernel⟩, lc_Mo_putNumber⟩
theorem lc_Mo_row : j_Lc jm_Mo_row 0 := ⟨by decide +kernel, by decide +kernel, by decide, by decide +kernel, by decide⟩
theorem c_Mo_164 : j_Lv "LinePatcherModel" 164 8 jm_Mo_row 0 := ⟨by decide +kernel, by decide +kernel, ⟨_, rfl, by decide +kernel⟩, lc_Mo_row⟩
theorem lc_Mo_lastOf : j_Lc jm_Mo_lastOf 2 := ⟨by decide +kernel, by decide +kernel, by decide, by decide +kernel, by decide⟩
theorem c_Mo_167 : j_Lv "LinePatcherModel" 167 8 jm_Mo_lastOf 2 := ⟨by decide +kernel, by decide +kernel, ⟨_, rfl, by decide +kernel⟩, lc_Mo_lastOf⟩
theorem lc_Mo_putHunk : j_Lc jm_Mo_putHunk 2 := ⟨by decide +kernel, by decide +kernel, by decide, by decide +kernel, by decide⟩
theorem c_Mo_171 : j_Lv "LinePatcherModel" 171 8 jm_Mo_putHunk 2 := ⟨by decide +kernel, by decide +kernel, ⟨_, rfl, by decide +kernel⟩, lc_Mo_putHunk⟩
theorem f_Mo_174 : j_F "LinePatcherModel" 174 8 33 33 false := ⟨rfl, _, "LinePatcherModel", rfl, by decide, rfl, Or.inl (by decide +kernel), Or.inl rfl⟩
theorem f_Mo_177 : j_F "LinePatcherModel" 177 8 34 34 false := ⟨rfl, _, "LinePatcherModel", rfl, by decide, rfl, Or.inl (by decide +kernel), Or.inl rfl⟩
theorem lc_Mo_look : j_Lc jm_Mo_look 0 := ⟨by decide +kernel, by decide +kernel, by decide, by decide +kernel, by decide⟩
theorem c_Mo_180 : j_Lv "LinePatcherModel" 180 8 jm_Mo_look 0 := ⟨by decide +kernel, by decide +kernel, ⟨_, rfl, by decide +kernel⟩, lc_Mo_look⟩
theorem lc_Mo_want : j_Lc jm_Mo_want 1 := ⟨by decide +kernel, by decide +kernel, by decide, by decide +kernel, by decide⟩
theorem c_Mo_184 : j_Lv "LinePatcherModel" 184 8 jm_Mo_want 1 := ⟨by decide +kernel, by decide +kernel, ⟨_, rfl, by decide +kernel⟩, lc_Mo_want⟩
theorem f_Mo_64 : j_F "LinePatcherModel" 64 8 27 27 true := ⟨rfl, _, "LinePatcherModel", rfl, by decide, rfl, Or.inl (by decide +kernel), Or.inl rfl⟩
theorem f_Mo_187 : j_F "LinePatcherModel" 187 8 26 26 false := ⟨rfl, _, "LinePatcherModel", rfl, by decide, rfl, Or.inl (by decide +kernel), Or.inl rfl⟩
theorem lc_Mo_number : j_Lc jm_Mo_number 0 := ⟨by decide +kernel, by decide +kernel, by decide, by decide +kernel, by decide⟩
theorem c_Mo_190 : j_Lv "LinePatcherModel" 190 8 jm_Mo_number 0 := ⟨by decide +kernel, by decide +kernel, ⟨_, rfl, by decide +kernel⟩, lc_Mo_number⟩
theorem f_Mo_67 : j_F "LinePatcherModel" 67 8 28 28 true := ⟨rfl, _, "LinePatcherModel", rfl, by decide, rfl, Or.inl (by decide +kernel), Or.inl rfl⟩
theorem f_Mo_70 : j_F "LinePatcherModel" 70 8 29 29 true := ⟨rfl, _, "LinePatcherModel", rfl, by decide, rfl, Or.inl (by decide +kernel), Or.inl rfl⟩
theorem f_Mo_76 : j_F "LinePatcherModel" 76 8 31 31 true := ⟨rfl, _, "LinePatcherModel", rfl, by decide, rfl, Or.inl (by decide +kernel), Or.inl rfl⟩
theorem f_Mo_73 : j_F "LinePatcherModel" 73 8 30 30 true := ⟨rfl, _, "LinePatcherModel", rfl, by decide, rfl, Or.inl (by decide +kernel), Or.inl rfl⟩
theorem lc_Mo_readHunk : j_Lc jm_Mo_readHunk 0 := ⟨by decide +kernel, by decide +kernel, by decide, by decide +kernel, by decide⟩
theorem c_Mo_193 : j_Lv "LinePatcherModel" 193 8 jm_Mo_readHunk 0 := ⟨by decide +kernel, by decide +kernel, ⟨_, rfl, by decide +kernel⟩, lc_Mo_readHunk⟩
theorem s_Mo_op_0 {G : j_G} {d B S N : Nat} {K : Nat → Option (Nat × Nat)} {M : Nat → Int → Int} {g : Nat → Int → Option Nat} {Q : j_O → j_S → Prop} {a0 y1 n2 y4 n3 : Nat} {x1 x2 : Int} (hk1 : K a0 = some (0, 8)) (hg2 : g a0 22 = some y1) (hk2 : K y1 = some (1, n2)) (r3 : 0 ≤ (M a0 21) := by omega) (r3' : (M a0 21) < (n2 : Int) := by omega) (hg5 : g a0 23 = some y4) (hk3 : K y4 = some (1, n3)) (r6 : 0 ≤ ((j_up M y1 (M a0 21) x1) a0 21) := by omega) (r6' : ((j_up M y1 (M a0 21) x1) a0 21) < (n3 : Int) := by omega) (k1 : Q (.inl none) (N, K, (j_up (j_up (j_up M y1 (M a0 21) x1) y4 ((j_up M y1 (M a0 21) x1) a0 21) x2) a0 21 (((j_up (j_up M y1 (M a0 21) x1) y4 ((j_up M y1 (M a0 21) x1) a0 21) x2) a0 21) + 1)), g)) : j_J G jm_Mo_op d B S 0 [jr_ a0, ji_ x1, ji_ x2] [] (N, K, M, g) Q :=
  j_aload_n d_Mo_op_0 rfl <| j_getR d_Mo_op_1 f_Mo_55 hk1 hg2 <| j_aload_n d_Mo_op_4 rfl <| j_getI d_Mo_op_5 f_Mo_145 hk1 <| j_iload_n d_Mo_op_8 rfl <| j_iast d_Mo_op_9 hk2 r3 r3' <| j_aload_n d_Mo_op_10 rfl <| j_getR d_Mo_op_11 f_Mo_58 hk1 hg5 <| j_aload_n d_Mo_op_14 rfl <| j_getI d_Mo_op_15 f_Mo_145 hk1 <| j_iload_n d_Mo_op_18 rfl <| j_iast d_Mo_op_19 hk3 r6 r6' <| j_aload_n d_Mo_op_20 rfl <| j_dupR d_Mo_op_21 <| j_getI d_Mo_op_22 f_Mo_145 hk1 <| j_iconst d_Mo_op_25 <| j_iadd d_Mo_op_26 <| j_putI d_Mo_op_27 f_Mo_145 (⟨_, rfl, Or.inl rfl⟩) rfl hk1 <| j_vreturn d_Mo_op_30 rfl k1
theorem s_Mo_row_0 {G : j_G} {d B S N : Nat} {K : Nat → Option (Nat × Nat)} {M : Nat → Int → Int} {g : Nat → Int → Option Nat} {Q : j_O → j_S → Prop} {a0 : Nat} {u1 u2 u3 : j_V} (hk1 : K a0 = some (0, 8)) (k1 : j_J G jm_Mo_row d B S 9 [jr_ a0, ji_ 0, ji_ 0, u3] [] (N, K, (j_up M a0 21 0), g) Q) : j_J G jm_Mo_row d B S 0 [jr_ a0, u1, u2, u3] [] (N, K, M, g) Q :=
  j_aload_n d_Mo_row_0 rfl <| j_iconst d_Mo_row_1 <| j_putI d_Mo_row_2 f_Mo_145 (⟨_, rfl, Or.inl rfl⟩) rfl hk1 <| j_iconst d_Mo_row_5 <| j_istore_n d_Mo_row_6 rfl rfl <| j_iconst d_Mo_row_7 <| j_istore_n d_Mo_row_8 rfl rfl <| k1
theorem s_Mo_row_9 {G : j_G} {d B S N : Nat} {K : Nat → Option (Nat × Nat)} {M : Nat → Int → Int} {g : Nat → Int → Option Nat} {Q : j_O → j_S → Prop} {a0 : Nat} {x1 x2 : Int} {u3 : j_V} (hk1 : K a0 = some (0, 8)) (r1 : -2147483648 ≤ x1 ∧ x1 ≤ 2147483647 := by omega) (r2 : -2147483648 ≤ (M a0 16) ∧ (M a0 16) ≤ 2147483647 := by omega) (k1 : x1 < (M a0 16) → j_J G jm_Mo_row d B S 25 [jr_ a0, ji_ x1, ji_ x2, u3] [] (N, K, M, g) Q) (k2 : (M a0 16) ≤ x1 → j_J G jm_Mo_row d B S 17 [jr_ a0, ji_ x1, ji_ x2, u3] [] (N, K, M, g) Q) : j_J G jm_Mo_row d B S 9 [jr_ a0, ji_ x1, ji_ x2, u3] [] (N, K, M, g) Q :=
  j_iload_n d_Mo_row_9 rfl <| j_aload_n d_Mo_row_10 rfl <| j_getI d_Mo_row_11 f_Mo_139 hk1 <| j_icmp_lt d_Mo_row_14 r1 r2 k1 k2
theorem s_Mo_row_17 {G : j_G} {d B S N : Nat} {K : Nat → Option (Nat × Nat)} {M : Nat → Int → Int} {g : Nat → Int → Option Nat} {Q : j_O → j_S → Prop} {a0 : Nat} {x1 x2 : Int} {u3 : j_V} (hk1 : K a0 = some (0, 8)) (r1 : -2147483648 ≤ x2 ∧ x2 ≤ 2147483647 := by omega) (r2 : -2147483648 ≤ (M a0 17) ∧ (M a0 17) ≤ 2147483647 := by omega) (k1 : (M a0 17) ≤ x2 → Q (.inl none) (N, K, M, g)) (k2 : x2 < (M a0 17) → j_J G jm_Mo_row d B S 25 [jr_ a0, ji_ x1, ji_ x2, u3] [] (N, K, M, g) Q) : j_J G jm_Mo_row d B S 17 [jr_ a0, ji_ x1, ji_ x2, u3] [] (N, K, M, g) Q :=
  j_iload_n d_Mo_row_17 rfl <| j_aload_n d_Mo_row_18 rfl <| j_getI d_Mo_row_19 f_Mo_142 hk1 <| j_icmp_ge d_Mo_row_22 r1 r2 (fun h => j_vreturn d_Mo_row_134 rfl <| k1 h) k2
theorem s_Mo_row_25 {G : j_G} {d B S N : Nat} {K : Nat → Option (Nat × Nat)} {M : Nat → Int → Int} {g : Nat → Int → Option Nat} {Q : j_O → j_S → Prop} {a0 : Nat} {x1 x2 : Int} {u3 : j_V} (hk1 : K a0 = some (0, 8)) (r1 : -2147483648 ≤ x1 ∧ x1 ≤ 2147483647 := by omega) (r2 : -2147483648 ≤ (M a0 16) ∧ (M a0 16) ≤ 2147483647 := by omega) (k1 : (M a0 16) ≤ x1 → j_J G jm_Mo_row d B S 60 [jr_ a0, ji_ x1, ji_ x2, u3] [] (N, K, M, g) Q) (k2 : x1 < (M a0 16) → j_J G jm_Mo_row d B S 33 [jr_ a0, ji_ x1, ji_ x2, u3] [] (N, K, M, g) Q) : j_J G jm_Mo_row d B S 25 [jr_ a0, ji_ x1, ji_ x2, u3] [] (N, K, M, g) Q :=
  j_iload_n d_Mo_row_25 rfl <| j_aload_n d_Mo_row_26 rfl <| j_getI d_Mo_row_27 f_Mo_139 hk1 <| j_icmp_ge d_Mo_row_30 r1 r2 k1 k2
theorem s_Mo_row_33 {G : j_G} {d B S N : Nat} {K : Nat → Option (Nat × Nat)} {M : Nat → Int → Int} {g : Nat → Int → Option Nat} {Q : j_O → j_S → Prop} {a0 y1 n2 : Nat} {x1 x2 : Int} {u3 : j_V} (hk1 : K a0 = some (0, 8)) (hg2 : g a0 20 = some y1) (hk2 : K y1 = some (1, n2)) (r3 : 0 ≤ x1 := by omega) (r3' : x1 < (n2 : Int) := by omega) (r4 : -2147483648 ≤ (M y1 x1) ∧ (M y1 x1) ≤ 2147483647 := by omega) (k1 : 0 ≤ (M y1 x1) → j_J G jm_Mo_row d B S 60 [jr_ a0, ji_ x1, ji_ x2, u3] [] (N, K, M, g) Q) (k2 : (M y1 x1) < 0 → j_J G jm_Mo_row d B S 42 [jr_ a0, ji_ x1, ji_ x2, u3] [] (N, K, M, g) Q) : j_J G jm_Mo_row d B S 33 [jr_ a0, ji_ x1, ji_ x2, u3] [] (N, K, M, g) Q :=
  j_aload_n d_Mo_row_33 rfl <| j_getR d_Mo_row_34 f_Mo_52 hk1 hg2 <| j_iload_n d_Mo_row_37 rfl <| j_iald d_Mo_row_38 hk2 r3 r3' <| j_if_ge d_Mo_row_39 r4 k1 k2
theorem s_Mo_row_42 {G : j_G} {d B S N : Nat} {K : Nat → Option (Nat × Nat)} {M : Nat → Int → Int} {g : Nat → Int → Option Nat} {Q : j_O → j_S → Prop} {a0 y1 n2 : Nat} {x1 x2 : Int} {u3 : j_V} {q : (Nat → Int → Int) → Prop} (hk1 : K a0 = some (0, 8)) (hg2 : g a0 18 = some y1) (hk2 : K y1 = some (1, n2)) (r3 : 0 ≤ x1 := by omega) (r3' : x1 < (n2 : Int) := by omega) (hC : j_Ct G jm_Mo_op d 0 0 [jr_ a0, ji_ 45, ji_ (M y1 x1)] (N, K, M, g) (j_pV N K g q)) (k1 : ∀ M', q M' → j_J G jm_Mo_row (d + 1) B S 54 [jr_ a0, ji_ x1, ji_ x2, u3] [] (N, K, M', g) Q) : j_J G jm_Mo_row (d + 1) B S 42 [jr_ a0, ji_ x1, ji_ x2, u3] [] (N, K, M, g) Q :=
  j_aload_n d_Mo_row_42 rfl <| j_bipush d_Mo_row_43 (by decide) <| j_aload_n d_Mo_row_45 rfl <| j_getR d_Mo_row_46 f_Mo_46 hk1 hg2 <| j_iload_n d_Mo_row_49 rfl <| j_iald d_Mo_row_50 hk2 r3 r3' <| j_aVV (as := [ji_ 45, ji_ (M y1 x1)]) (rest := []) d_Mo_row_51 c_Mo_148 hk1 rfl (Nat.le_of_ble_eq_true rfl) hC k1
theorem s_Mo_row_54 {G : j_G} {d B S N : Nat} {K : Nat → Option (Nat × Nat)} {M : Nat → Int → Int} {g : Nat → Int → Option Nat} {Q : j_O → j_S → Prop} {a0 : Nat} {x1 x2 : Int} {u3 : j_V}  (k1 : j_J G jm_Mo_row d B S 25 [jr_ a0, ji_ (x1 + 1), ji_ x2, u3] [] (N, K, M, g) Q) : j_J G jm_Mo_row d B S 54 [jr_ a0, ji_ x1, ji_ x2, u3] [] (N, K, M, g) Q :=
  j_iinc d_Mo_row_54 rfl rfl rfl <| j_goto d_Mo_row_57 k1
theorem s_Mo_row_60 {G : j_G} {d B S N : Nat} {K : Nat → Option (Nat × Nat)} {M : Nat → Int → Int} {g : Nat → Int → Option Nat} {Q : j_O → j_S → Prop} {a0 : Nat} {x1 x2 : Int} {u3 : j_V} (hk1 : K a0 = some (0, 8)) (r1 : -2147483648 ≤ x1 ∧ x1 ≤ 2147483647 := by omega) (r2 : -2147483648 ≤ (M a0 16) ∧ (M a0 16) ≤ 2147483647 := by omega) (k1 : (M a0 16) ≤ x1 → j_J G jm_Mo_row d B S 77 [jr_ a0, ji_ x1, ji_ x2, u3] [] (N, K, M, g) Q) (k2 : x1 < (M a0 16) → j_J G jm_Mo_row d B S 68 [jr_ a0, ji_ x1, ji_ x2, u3] [] (N, K, M, g) Q) : j_J G jm_Mo_row d B S 60 [jr_ a0, ji_ x1, ji_ x2, u3] [] (N, K, M, g) Q :=
  j_iload_n d_Mo_row_60 rfl <| j_aload_n d_Mo_row_61 rfl <| j_getI d_Mo_row_62 f_Mo_139 hk1 <| j_icmp_ge d_Mo_row_65 r1 r2 k1 k2
theorem s_Mo_row_68 {G : j_G} {d B S N : Nat} {K : Nat → Option (Nat × Nat)} {M : Nat → Int → Int} {g : Nat → Int → Option Nat} {Q : j_O → j_S → Prop} {a0 y1 n2 : Nat} {x1 x2 : Int} {u3 : j_V} (hk1 : K a0 = some (0, 8)) (hg2 : g a0 20 = some y1) (hk2 : K y1 = some (1, n2)) (r3 : 0 ≤ x1 := by omega) (r3' : x1 < (n2 : Int) := by omega) (k1 : j_J G jm_Mo_row d B S 82 [jr_ a0, ji_ x1, ji_ x2, ji_ (M y1 x1)] [] (N, K, M, g) Q) : j_J G jm_Mo_row d B S 68 [jr_ a0, ji_ x1, ji_ x2, u3] [] (N, K, M, g) Q :=
  j_aload_n d_Mo_row_68 rfl <| j_getR d_Mo_row_69 f_Mo_52 hk1 hg2 <| j_iload_n d_Mo_row_72 rfl <| j_iald d_Mo_row_73 hk2 r3 r3' <| j_goto d_Mo_row_74 (j_istore_n d_Mo_row_81 rfl rfl <| k1)
theorem s_Mo_row_77 {G : j_G} {d B S N : Nat} {K : Nat → Option (Nat × Nat)} {M : Nat → Int → Int} {g : Nat → Int → Option Nat} {Q : j_O → j_S → Prop} {a0 : Nat} {x1 x2 : Int} {u3 : j_V} (hk1 : K a0 = some (0, 8)) (k1 : j_J G jm_Mo_row d B S 82 [jr_ a0, ji_ x1, ji_ x2, ji_ (M a0 17)] [] (N, K, M, g) Q) : j_J G jm_Mo_row d B S 77 [jr_ a0, ji_ x1, ji_ x2, u3] [] (N, K, M, g) Q :=
  j_aload_n d_Mo_row_77 rfl <| j_getI d_Mo_row_78 f_Mo_142 hk1 <| (j_istore_n d_Mo_row_81 rfl rfl <| k1)
theorem s_Mo_row_81 {G : j_G} {d B S N : Nat} {K : Nat → Option (Nat × Nat)} {M : Nat → Int → Int} {g : Nat → Int → Option Nat} {Q : j_O → j_S → Prop} {a0 : Nat} {x1 x2 t0 : Int} {u3 : j_V}  (k1 : j_J G jm_Mo_row d B S 82 [jr_ a0, ji_ x1, ji_ x2, ji_ t0] [] (N, K, M, g) Q) : j_J G jm_Mo_row d B S 81 [jr_ a0, ji_ x1, ji_ x2, u3] [ji_ t0] (N, K, M, g) Q :=
  j_istore_n d_Mo_row_81 rfl rfl <| k1
theorem s_Mo_row_82 {G : j_G} {d B S N : Nat} {K : Nat → Option (Nat × Nat)} {M : Nat → Int → Int} {g : Nat → Int → Option Nat} {Q : j_O → j_S → Prop} {a0 : Nat} {x1 x2 x3 : Int} (r1 : -2147483648 ≤ x2 ∧ x2 ≤ 2147483647 := by omega) (r2 : -2147483648 ≤ x3 ∧ x3 ≤ 2147483647 := by omega) (k1 : x3 ≤ x2 → j_J G jm_Mo_row d B S 105 [jr_ a0, ji_ x1, ji_ x2, ji_ x3] [] (N, K, M, g) Q) (k2 : x2 < x3 → j_J G jm_Mo_row d B S 87 [jr_ a0, ji_ x1, ji_ x2, ji_ x3] [] (N, K, M, g) Q) : j_J G jm_Mo_row d B S 82 [jr_ a0, ji_ x1, ji_ x2, ji_ x3] [] (N, K, M, g) Q :=
  j_iload_n d_Mo_row_82 rfl <| j_iload_n d_Mo_row_83 rfl <| j_icmp_ge d_Mo_row_84 r1 r2 k1 k2
theorem s_Mo_row_87 {G : j_G} {d B S N : Nat} {K : Nat → Option (Nat × Nat)} {M : Nat → Int → Int} {g : Nat → Int → Option Nat} {Q : j_O → j_S → Prop} {a0 y1 n2 : Nat} {x1 x2 x3 : Int} {q : (Nat → Int → Int) → Prop} (hk1 : K a0 = some (0, 8)) (hg2 : g a0 19 = some y1) (hk2 : K y1 = some (1, n2)) (r3 : 0 ≤ x2 := by omega) (r3' : x2 < (n2 : Int) := by omega) (hC : j_Ct G jm_Mo_op d 0 0 [jr_ a0, ji_ 43, ji_ (M y1 x2)] (N, K, M, g) (j_pV N K g q)) (k1 : ∀ M', q M' → j_J G jm_Mo_row (d + 1) B S 99 [jr_ a0, ji_ x1, ji_ x2, ji_ x3] [] (N, K, M', g) Q) : j_J G jm_Mo_row (d + 1) B S 87 [jr_ a0, ji_ x1, ji_ x2, ji_ x3] [] (N, K, M, g) Q :=
  j_aload_n d_Mo_row_87 rfl <| j_bipush d_Mo_row_88 (by decide) <| j_aload_n d_Mo_row_90 rfl <| j_getR d_Mo_row_91 f_Mo_49 hk1 hg2 <| j_iload_n d_Mo_row_94 rfl <| j_iald d_Mo_row_95 hk2 r3 r3' <| j_aVV (as := [ji_ 43, ji_ (M y1 x2)]) (rest := []) d_Mo_row_96 c_Mo_148 hk1 rfl (Nat.le_of_ble_eq_true rfl) hC k1
theorem s_Mo_row_99 {G : j_G} {d B S N : Nat} {K : Nat → Option (Nat × Nat)} {M : Nat → Int → Int} {g : Nat → Int → Option Nat} {Q : j_O → j_S → Prop} {a0 : Nat} {x1 x2 x3 : Int}  (k1 : j_J G jm_Mo_row d B S 82 [jr_ a0, ji_ x1, ji_ (x2 + 1), ji_ x3] [] (N, K, M, g) Q) : j_J G jm_Mo_row d B S 99 [jr_ a0, ji_ x1, ji_ x2, ji_ x3] [] (N, K, M, g) Q :=
  j_iinc d_Mo_row_99 rfl rfl rfl <| j_goto d_Mo_row_102 k1
theorem s_Mo_row_105 {G : j_G} {d B S N : Nat} {K : Nat → Option (Nat × Nat)} {M : Nat → Int → Int} {g : Nat → Int → Option Nat} {Q : j_O → j_S → Prop} {a0 : Nat} {x1 x2 x3 : Int} (hk1 : K a0 = some (0, 8)) (r1 : -2147483648 ≤ x1 ∧ x1 ≤ 2147483647 := by omega) (r2 : -2147483648 ≤ (M a0 16) ∧ (M a0 16) ≤ 2147483647 := by omega) (k1 : (M a0 16) ≤ x1 → j_J G jm_Mo_row d B S 9 [jr_ a0, ji_ x1, ji_ x2, ji_ x3] [] (N, K, M, g) Q) (k2 : x1 < (M a0 16) → j_J G jm_Mo_row d B S 113 [jr_ a0, ji_ x1, ji_ x2, ji_ x3] [] (N, K, M, g) Q) : j_J G jm_Mo_row d B S 105 [jr_ a0, ji_ x1, ji_ x2, ji_ x3] [] (N, K, M, g) Q :=
  j_iload_n d_Mo_row_105 rfl <| j_aload_n d_Mo_row_106 rfl <| j_getI d_Mo_row_107 f_Mo_139 hk1 <| j_icmp_ge d_Mo_row_110 r1 r2 (fun h => j_goto d_Mo_row_131 <| k1 h) k2
theorem s_Mo_row_113 {G : j_G} {d B S N : Nat} {K : Nat → Option (Nat × Nat)} {M : Nat → Int → Int} {g : Nat → Int → Option Nat} {Q : j_O → j_S → Prop} {a0 y1 n2 : Nat} {x1 x2 x3 : Int} {q : (Nat → Int → Int) → Prop} (hk1 : K a0 = some (0, 8)) (hg2 : g a0 18 = some y1) (hk2 : K y1 = some (1, n2)) (r3 : 0 ≤ x1 := by omega) (r3' : x1 < (n2 : Int) := by omega) (hC : j_Ct G jm_Mo_op d 0 0 [jr_ a0, ji_ 32, ji_ (M y1 x1)] (N, K, M, g) (j_pV N K g q)) (k1 : ∀ M', q M' → j_J G jm_Mo_row (d + 1) B S 125 [jr_ a0, ji_ x1, ji_ x2, ji_ x3] [] (N, K, M', g) Q) : j_J G jm_Mo_row (d + 1) B S 113 [jr_ a0, ji_ x1, ji_ x2, ji_ x3] [] (N, K, M, g) Q :=
  j_aload_n d_Mo_row_113 rfl <| j_bipush d_Mo_row_114 (by decide) <| j_aload_n d_Mo_row_116 rfl <| j_getR d_Mo_row_117 f_Mo_46 hk1 hg2 <| j_iload_n d_Mo_row_120 rfl <| j_iald d_Mo_row_121 hk2 r3 r3' <| j_aVV (as := [ji_ 32, ji_ (M y1 x1)]) (rest := []) d_Mo_row_122 c_Mo_148 hk1 rfl (Nat.le_of_ble_eq_true rfl) hC k1
theorem s_Mo_row_125 {G : j_G} {d B S N : Nat} {K : Nat → Option (Nat × Nat)} {M : Nat → Int → Int} {g : Nat → Int → Option Nat} {Q : j_O → j_S → Prop} {a0 : Nat} {x1 x2 x3 : Int}  (k1 : j_J G jm_Mo_row d B S 9 [jr_ a0, ji_ (x1 + 1), ji_ (x2 + 1), ji_ x3] [] (N, K, M, g) Q) : j_J G jm_Mo_row d B S 125 [jr_ a0, ji_ x1, ji_ x2, ji_ x3] [] (N, K, M, g) Q :=
  j_iinc d_Mo_row_125 rfl rfl rfl <| j_iinc d_Mo_row_128 rfl rfl rfl <| (j_goto d_Mo_row_131 <| k1)
theorem s_Mo_row_131 {G : j_G} {d B S N : Nat} {K : Nat → Option (Nat × Nat)} {M : Nat → Int → Int} {g : Nat → Int → Option Nat} {Q : j_O → j_S → Prop} {a0 : Nat} {x1 x2 x3 : Int}  (k1 : j_J G jm_Mo_row d B S 9 [jr_ a0, ji_ x1, ji_ x2, ji_ x3] [] (N, K, M, g) Q) : j_J G jm_Mo_row d B S 131 [jr_ a0, ji_ x1, ji_ x2, ji_ x3] [] (N, K, M, g) Q :=
  j_goto d_Mo_row_131 k1
theorem s_Mo_row_134 {G : j_G} {d B S N : Nat} {K : Nat → Option (Nat × Nat)} {M : Nat → Int → Int} {g : Nat → Int → Option Nat} {Q : j_O → j_S → Prop} {a0 : Nat} {x1 x2 : Int} {u3 : j_V}  (k1 : Q (.inl none) (N, K, M, g)) : j_J G jm_Mo_row d B S 134 [jr_ a0, ji_ x1, ji_ x2, u3] [] (N, K, M, g) Q :=
  j_vreturn d_Mo_row_134 rfl k1
theorem s_Mo_put_0 {G : j_G} {d B S N : Nat} {K : Nat → Option (Nat × Nat)} {M : Nat → Int → Int} {g : Nat → Int → Option Nat} {Q : j_O → j_S → Prop} {a0 y1 n2 : Nat} {x1 : Int} (hk1 : K a0 = some (0, 8)) (hg2 : g a0 25 = some y1) (hk2 : K y1 = some (1, n2)) (r3 : 0 ≤ (M a0 24) := by omega) (r3' : (M a0 24) < (n2 : Int) := by omega) (k1 : Q (.inl none) (N, K, (j_up (j_up M y1 (M a0 24) x1) a0 24 (((j_up M y1 (M a0 24) x1) a0 24) + 1)), g)) : j_J G jm_Mo_put d B S 0 [jr_ a0, ji_ x1] [] (N, K, M, g) Q :=
  j_aload_n d_Mo_put_0 rfl <| j_getR d_Mo_put_1 f_Mo_61 hk1 hg2 <| j_aload_n d_Mo_put_4 rfl <| j_getI d_Mo_put_5 f_Mo_151 hk1 <| j_iload_n d_Mo_put_8 rfl <| j_iast d_Mo_put_9 hk2 r3 r3' <| j_aload_n d_Mo_put_10 rfl <| j_dupR d_Mo_put_11 <| j_getI d_Mo_put_12 f_Mo_151 hk1 <| j_iconst d_Mo_put_15 <| j_iadd d_Mo_put_16 <| j_putI d_Mo_put_17 f_Mo_151 (⟨_, rfl, Or.inl rfl⟩) rfl hk1 <| j_vreturn d_Mo_put_20 rfl k1
theorem s_Mo_putNumber_0 {G : j_G} {d B S N : Nat} {K : Nat → Option (Nat × Nat)} {M : Nat → Int → Int} {g : Nat → Int → Option Nat} {Q : j_O → j_S → Prop} {a0 : Nat} {x1 : Int} (r1 : -2147483648 ≤ x1 ∧ x1 ≤ 2147483647 := by omega) (k1 : x1 ≤ 9 → j_J G jm_Mo_putNumber d B S 17 [jr_ a0, ji_ x1] [] (N, K, M, g) Q) (k2 : 9 < x1 → j_J G jm_Mo_putNumber d B S 6 [jr_ a0, ji_ x1] [] (N, K, M, g) Q) : j_J G jm_Mo_putNumber d B S 0 [jr_ a0, ji_ x1] [] (N, K, M, g) Q :=
  j_iload_n d_Mo_putNumber_0 rfl <| j_bipush d_Mo_putNumber_1 (by decide) <| j_icmp_le d_Mo_putNumber_3 r1 (by decide) k1 k2
theorem s_Mo_putNumber_6 {G : j_G} {d B S N : Nat} {K : Nat → Option (Nat × Nat)} {M : Nat → Int → Int} {g : Nat → Int → Option Nat} {Q : j_O → j_S → Prop} {a0 : Nat} {x1 : Int} {q : (Nat → Int → Int) → Prop} (r1 : -2147483648 ≤ x1 ∧ x1 ≤ 2147483647 := by omega) (hk1 : K a0 = some (0, 8)) (hC : j_Ct G jm_Mo_put d 0 0 [jr_ a0, ji_ (48 + (Int.tdiv x1 10))] (N, K, M, g) (j_pV N K g q)) (k1 : ∀ M', q M' → j_J G jm_Mo_putNumber (d + 1) B S 17 [jr_ a0, ji_ x1] [] (N, K, M', g) Q) : j_J G jm_Mo_putNumber (d + 1) B S 6 [jr_ a0, ji_ x1] [] (N, K, M, g) Q :=
  j_aload_n d_Mo_putNumber_6 rfl <| j_bipush d_Mo_putNumber_7 (by decide) <| j_iload_n d_Mo_putNumber_9 rfl <| j_bipush d_Mo_putNumber_10 (by decide) <| j_idiv d_Mo_putNumber_12 r1 (by decide) (by decide) <| j_iadd d_Mo_putNumber_13 <| j_aVV (as := [ji_ (48 + (Int.tdiv x1 10))]) (rest := []) d_Mo_putNumber_14 c_Mo_154 hk1 rfl (Nat.le_of_ble_eq_true rfl) hC k1
theorem s_Mo_putNumber_17 {G : j_G} {d B S N : Nat} {K : Nat → Option (Nat × Nat)} {M : Nat → Int → Int} {g : Nat → Int → Option Nat} {Q : j_O → j_S → Prop} {a0 : Nat} {x1 : Int} {q : (Nat → Int → Int) → Prop} (r1 : -2147483648 ≤ x1 ∧ x1 ≤ 2147483647 := by omega) (hk1 : K a0 = some (0, 8)) (hC : j_Ct G jm_Mo_put d 0 0 [jr_ a0, ji_ (48 + (Int.tmod x1 10))] (N, K, M, g) (j_pV N K g q)) (k1 : ∀ M', q M' → j_J G jm_Mo_putNumber (d + 1) B S 28 [jr_ a0, ji_ x1] [] (N, K, M', g) Q) : j_J G jm_Mo_putNumber (d + 1) B S 17 [jr_ a0, ji_ x1] [] (N, K, M, g) Q :=
  j_aload_n d_Mo_putNumber_17 rfl <| j_bipush d_Mo_putNumber_18 (by decide) <| j_iload_n d_Mo_putNumber_20 rfl <| j_bipush d_Mo_putNumber_21 (by decide) <| j_irem d_Mo_putNumber_23 r1 (by decide) (by decide) <| j_iadd d_Mo_putNumber_24 <| j_aVV (as := [ji_ (48 + (Int.tmod x1 10))]) (rest := []) d_Mo_putNumber_25 c_Mo_154 hk1 rfl (Nat.le_of_ble_eq_true rfl) hC k1
theorem s_Mo_putNumber_28 {G : j_G} {d B S N : Nat} {K : Nat → Option (Nat × Nat)} {M : Nat → Int → Int} {g : Nat → Int → Option Nat} {Q : j_O → j_S → Prop} {a0 : Nat} {x1 : Int}  (k1 : Q (.inl none) (N, K, M, g)) : j_J G jm_Mo_putNumber d B S 28 [jr_ a0, ji_ x1] [] (N, K, M, g) Q :=
  j_vreturn d_Mo_putNumber_28 rfl k1
theorem s_Mo_others_0 {G : j_G} {d B S N : Nat} {K : Nat → Option (Nat × Nat)} {M : Nat → Int → Int} {g : Nat → Int → Option Nat} {Q : j_O → j_S → Prop} {a0 : Nat} {x1 x2 x3 : Int} {u4 u5 : j_V}  (k1 : j_J G jm_Mo_others d B S 6 [jr_ a0, ji_ x1, ji_ x2, ji_ x3, ji_ 0, ji_ x1] [] (N, K, M, g) Q) : j_J G jm_Mo_others d B S 0 [jr_ a0, ji_ x1, ji_ x2, ji_ x3, u4, u5] [] (N, K, M, g) Q :=
  j_iconst d_Mo_others_0 <| j_istore d_Mo_others_1 rfl rfl <| j_iload_n d_Mo_others_3 rfl <| j_istore d_Mo_others_4 rfl rfl <| k1
theorem s_Mo_others_6 {G : j_G} {d B S N : Nat} {K : Nat → Option (Nat × Nat)} {M : Nat → Int → Int} {g : Nat → Int → Option Nat} {Q : j_O → j_S → Prop} {a0 : Nat} {x1 x2 x3 x4 x5 : Int} (r1 : -2147483648 ≤ x5 ∧ x5 ≤ 2147483647 := by omega) (r2 : -2147483648 ≤ x2 ∧ x2 ≤ 2147483647 := by omega) (k1 : x2 ≤ x5 → Q (.inl (some (ji_ x4))) (N, K, M, g)) (k2 : x5 < x2 → j_J G jm_Mo_others d B S 12 [jr_ a0, ji_ x1, ji_ x2, ji_ x3, ji_ x4, ji_ x5] [] (N, K, M, g) Q) : j_J G jm_Mo_others d B S 6 [jr_ a0, ji_ x1, ji_ x2, ji_ x3, ji_ x4, ji_ x5] [] (N, K, M, g) Q :=
  j_iload d_Mo_others_6 rfl <| j_iload_n d_Mo_others_8 rfl <| j_icmp_ge d_Mo_others_9 r1 r2 (fun h => j_iload d_Mo_others_40 rfl <| j_ireturn d_Mo_others_42 rfl <| k1 h) k2
theorem s_Mo_others_12 {G : j_G} {d B S N : Nat} {K : Nat → Option (Nat × Nat)} {M : Nat → Int → Int} {g : Nat → Int → Option Nat} {Q : j_O → j_S → Prop} {a0 y1 n2 : Nat} {x1 x2 x3 x4 x5 : Int} (hk1 : K a0 = some (0, 8)) (hg2 : g a0 22 = some y1) (hk2 : K y1 = some (1, n2)) (r3 : 0 ≤ x5 := by omega) (r3' : x5 < (n2 : Int) := by omega) (r4 : -2147483648 ≤ (M y1 x5) ∧ (M y1 x5) ≤ 2147483647 := by omega) (r5 : -2147483648 ≤ x3 ∧ x3 ≤ 2147483647 := by omega) (k1 : (M y1 x5) = x3 → j_J G jm_Mo_others d B S 6 [jr_ a0, ji_ x1, ji_ x2, ji_ x3, ji_ x4, ji_ (x5 + 1)] [] (N, K, M, g) Q) (k2 : (M y1 x5) ≠ x3 → j_J G jm_Mo_others d B S 6 [jr_ a0, ji_ x1, ji_ x2, ji_ x3, ji_ (x4 + 1), ji_ (x5 + 1)] [] (N, K, M, g) Q) : j_J G jm_Mo_others d B S 12 [jr_ a0, ji_ x1, ji_ x2, ji_ x3, ji_ x4, ji_ x5] [] (N, K, M, g) Q :=
  j_aload_n d_Mo_others_12 rfl <| j_getR d_Mo_others_13 f_Mo_55 hk1 hg2 <| j_iload d_Mo_others_16 rfl <| j_iald d_Mo_others_18 hk2 r3 r3' <| j_iload_n d_Mo_others_19 rfl <| j_icmp_eq d_Mo_others_20 r4 r5 (fun h => j_iload d_Mo_others_30 rfl <| j_istore d_Mo_others_32 rfl rfl <| j_iinc d_Mo_others_34 rfl rfl rfl <| j_goto d_Mo_others_37 <| k1 h) (fun h => j_iload d_Mo_others_23 rfl <| j_iconst d_Mo_others_25 <| j_iadd d_Mo_others_26 <| j_goto d_Mo_others_27 <| j_istore d_Mo_others_32 rfl rfl <| j_iinc d_Mo_others_34 rfl rfl rfl <| j_goto d_Mo_others_37 <| k2 h)
theorem s_Mo_others_23 {G : j_G} {d B S N : Nat} {K : Nat → Option (Nat × Nat)} {M : Nat → Int → Int} {g : Nat → Int → Option Nat} {Q : j_O → j_S → Prop} {a0 : Nat} {x1 x2 x3 x4 x5 : Int}  (k1 : j_J G jm_Mo_others d B S 6 [jr_ a0, ji_ x1, ji_ x2, ji_ x3, ji_ (x4 + 1), ji_ (x5 + 1)] [] (N, K, M, g) Q) : j_J G jm_Mo_others d B S 23 [jr_ a0, ji_ x1, ji_ x2, ji_ x3, ji_ x4, ji_ x5] [] (N, K, M, g) Q :=
  j_iload d_Mo_others_23 rfl <| j_iconst d_Mo_others_25 <| j_iadd d_Mo_others_26 <| j_goto d_Mo_others_27 (j_istore d_Mo_others_32 rfl rfl <| j_iinc d_Mo_others_34 rfl rfl rfl <| j_goto d_Mo_others_37 <| k1)
theorem s_Mo_others_30 {G : j_G} {d B S N : Nat} {K : Nat → Option (Nat × Nat)} {M : Nat → Int → Int} {g : Nat → Int → Option Nat} {Q : j_O → j_S → Prop} {a0 : Nat} {x1 x2 x3 x4 x5 : Int}  (k1 : j_J G jm_Mo_others d B S 6 [jr_ a0, ji_ x1, ji_ x2, ji_ x3, ji_ x4, ji_ (x5 + 1)] [] (N, K, M, g) Q) : j_J G jm_Mo_others d B S 30 [jr_ a0, ji_ x1, ji_ x2, ji_ x3, ji_ x4, ji_ x5] [] (N, K, M, g) Q :=
  j_iload d_Mo_others_30 rfl <| (j_istore d_Mo_others_32 rfl rfl <| j_iinc d_Mo_others_34 rfl rfl rfl <| j_goto d_Mo_others_37 <| k1)
theorem s_Mo_others_32 {G : j_G} {d B S N : Nat} {K : Nat → Option (Nat × Nat)} {M : Nat → Int → Int} {g : Nat → Int → Option Nat} {Q : j_O → j_S → Prop} {a0 : Nat} {x1 x2 x3 x4 x5 t0 : Int}  (k1 : j_J G jm_Mo_others d B S 6 [jr_ a0, ji_ x1, ji_ x2, ji_ x3, ji_ t0, ji_ (x5 + 1)] [] (N, K, M, g) Q) : j_J G jm_Mo_others d B S 32 [jr_ a0, ji_ x1, ji_ x2, ji_ x3, ji_ x4, ji_ x5] [ji_ t0] (N, K, M, g) Q :=
  j_istore d_Mo_others_32 rfl rfl <| j_iinc d_Mo_others_34 rfl rfl rfl <| j_goto d_Mo_others_37 k1
theorem s_Mo_others_40 {G : j_G} {d B S N : Nat} {K : Nat → Option (Nat × Nat)} {M : Nat → Int → Int} {g : Nat → Int → Option Nat} {Q : j_O → j_S → Prop} {a0 : Nat} {x1 x2 x3 x4 x5 : Int}  (k1 : Q (.inl (some (ji_ x4))) (N, K, M, g)) : j_J G jm_Mo_others d B S 40 [jr_ a0, ji_ x1, ji_ x2, ji_ x3, ji_ x4, ji_ x5] [] (N, K, M, g) Q :=
  j_iload d_Mo_others_40 rfl <| j_ireturn d_Mo_others_42 rfl k1
theorem s_Mo_putHunk_0 {G : j_G} {d B S N : Nat} {K : Nat → Option (Nat × Nat)} {M : Nat → Int → Int} {g : Nat → Int → Option Nat} {Q : j_O → j_S → Prop} {a0 : Nat} {x1 x2 : Int} {u3 : j_V} {q : (Nat → Int → Int) → Prop} (hk1 : K a0 = some (0, 8)) (hC : j_Ct G jm_Mo_put d 0 0 [jr_ a0, ji_ 64] (N, K, M, g) (j_pV N K g q)) (k1 : ∀ M', q M' → j_J G jm_Mo_putHunk (d + 1) B S 6 [jr_ a0, ji_ x1, ji_ x2, u3] [] (N, K, M', g) Q) : j_J G jm_Mo_putHunk (d + 1) B S 0 [jr_ a0, ji_ x1, ji_ x2, u3] [] (N, K, M, g) Q :=
  j_aload_n d_Mo_putHunk_0 rfl <| j_bipush d_Mo_putHunk_1 (by decide) <| j_aVV (as := [ji_ 64]) (rest := []) d_Mo_putHunk_3 c_Mo_154 hk1 rfl (Nat.le_of_ble_eq_true rfl) hC k1
theorem s_Mo_putHunk_6 {G : j_G} {d B S N : Nat} {K : Nat → Option (Nat × Nat)} {M : Nat → Int → Int} {g : Nat → Int → Option Nat} {Q : j_O → j_S → Prop} {a0 : Nat} {x1 x2 : Int} {u3 : j_V} {q : Int → (Nat → Int → Int) → Prop} (hk1 : K a0 = some (0, 8)) (hC : j_Ct G jm_Mo_others d 0 0 [jr_ a0, ji_ 0, ji_ x1, ji_ 43] (N, K, M, g) (j_pI N K g q)) (k1 : ∀ z M', q z M' → j_J G jm_Mo_putHunk (d + 1) B S 15 [jr_ a0, ji_ x1, ji_ x2, u3] [ji_ z, jr_ a0] (N, K, M', g) Q) : j_J G jm_Mo_putHunk (d + 1) B S 6 [jr_ a0, ji_ x1, ji_ x2, u3] [] (N, K, M, g) Q :=
  j_aload_n d_Mo_putHunk_6 rfl <| j_aload_n d_Mo_putHunk_7 rfl <| j_iconst d_Mo_putHunk_8 <| j_iload_n d_Mo_putHunk_9 rfl <| j_bipush d_Mo_putHunk_10 (by decide) <| j_aVI (as := [ji_ 0, ji_ x1, ji_ 43]) (rest := [jr_ a0]) d_Mo_putHunk_12 c_Mo_157 hk1 rfl (Nat.le_of_ble_eq_true rfl) hC k1
theorem s_Mo_putHunk_15 {G : j_G} {d B S N : Nat} {K : Nat → Option (Nat × Nat)} {M : Nat → Int → Int} {g : Nat → Int → Option Nat} {Q : j_O → j_S → Prop} {a0 b0 : Nat} {x1 x2 t1 : Int} {u3 : j_V} {q : (Nat → Int → Int) → Prop} (hk1 : K b0 = some (0, 8)) (hC : j_Ct G jm_Mo_putNumber d 0 0 [jr_ b0, ji_ t1] (N, K, M, g) (j_pV N K g q)) (k1 : ∀ M', q M' → j_J G jm_Mo_putHunk (d + 1) B S 18 [jr_ a0, ji_ x1, ji_ x2, u3] [] (N, K, M', g) Q) : j_J G jm_Mo_putHunk (d + 1) B S 15 [jr_ a0, ji_ x1, ji_ x2, u3] [ji_ t1, jr_ b0] (N, K, M, g) Q :=
  j_aVV (as := [ji_ t1]) (rest := []) d_Mo_putHunk_15 c_Mo_161 hk1 rfl (Nat.le_of_ble_eq_true rfl) hC k1
theorem s_Mo_putHunk_18 {G : j_G} {d B S N : Nat} {K : Nat → Option (Nat × Nat)} {M : Nat → Int → Int} {g : Nat → Int → Option Nat} {Q : j_O → j_S → Prop} {a0 : Nat} {x1 x2 : Int} {u3 : j_V} {q : (Nat → Int → Int) → Prop} (hk1 : K a0 = some (0, 8)) (hC : j_Ct G jm_Mo_put d 0 0 [jr_ a0, ji_ 44] (N, K, M, g) (j_pV N K g q)) (k1 : ∀ M', q M' → j_J G jm_Mo_putHunk (d + 1) B S 24 [jr_ a0, ji_ x1, ji_ x2, u3] [] (N, K, M', g) Q) : j_J G jm_Mo_putHunk (d + 1) B S 18 [jr_ a0, ji_ x1, ji_ x2, u3] [] (N, K, M, g) Q :=
  j_aload_n d_Mo_putHunk_18 rfl <| j_bipush d_Mo_putHunk_19 (by decide) <| j_aVV (as := [ji_ 44]) (rest := []) d_Mo_putHunk_21 c_Mo_154 hk1 rfl (Nat.le_of_ble_eq_true rfl) hC k1
theorem s_Mo_putHunk_24 {G : j_G} {d B S N : Nat} {K : Nat → Option (Nat × Nat)} {M : Nat → Int → Int} {g : Nat → Int → Option Nat} {Q : j_O → j_S → Prop} {a0 : Nat} {x1 x2 : Int} {u3 : j_V} {q : Int → (Nat → Int → Int) → Prop} (hk1 : K a0 = some (0, 8)) (hC : j_Ct G jm_Mo_others d 0 0 [jr_ a0, ji_ x1, ji_ x2, ji_ 43] (N, K, M, g) (j_pI N K g q)) (k1 : ∀ z M', q z M' → j_J G jm_Mo_putHunk (d + 1) B S 33 [jr_ a0, ji_ x1, ji_ x2, u3] [ji_ z, jr_ a0] (N, K, M', g) Q) : j_J G jm_Mo_putHunk (d + 1) B S 24 [jr_ a0, ji_ x1, ji_ x2, u3] [] (N, K, M, g) Q :=
  j_aload_n d_Mo_putHunk_24 rfl <| j_aload_n d_Mo_putHunk_25 rfl <| j_iload_n d_Mo_putHunk_26 rfl <| j_iload_n d_Mo_putHunk_27 rfl <| j_bipush d_Mo_putHunk_28 (by decide) <| j_aVI (as := [ji_ x1, ji_ x2, ji_ 43]) (rest := [jr_ a0]) d_Mo_putHunk_30 c_Mo_157 hk1 rfl (Nat.le_of_ble_eq_true rfl) hC k1
theorem s_Mo_putHunk_33 {G : j_G} {d B S N : Nat} {K : Nat → Option (Nat × Nat)} {M : Nat → Int → Int} {g : Nat → Int → Option Nat} {Q : j_O → j_S → Prop} {a0 b0 : Nat} {x1 x2 t1 : Int} {u3 : j_V} {q : (Nat → Int → Int) → Prop} (hk1 : K b0 = some (0, 8)) (hC : j_Ct G jm_Mo_putNumber d 0 0 [jr_ b0, ji_ t1] (N, K, M, g) (j_pV N K g q)) (k1 : ∀ M', q M' → j_J G jm_Mo_putHunk (d + 1) B S 36 [jr_ a0, ji_ x1, ji_ x2, u3] [] (N, K, M', g) Q) : j_J G jm_Mo_putHunk (d + 1) B S 33 [jr_ a0, ji_ x1, ji_ x2, u3] [ji_ t1, jr_ b0] (N, K, M, g) Q :=
  j_aVV (as := [ji_ t1]) (rest := []) d_Mo_putHunk_33 c_Mo_161 hk1 rfl (Nat.le_of_ble_eq_true rfl) hC k1
theorem s_Mo_putHunk_36 {G : j_G} {d B S N : Nat} {K : Nat → Option (Nat × Nat)} {M : Nat → Int → Int} {g : Nat → Int → Option Nat} {Q : j_O → j_S → Prop} {a0 : Nat} {x1 x2 : Int} {u3 : j_V} {q : (Nat → Int → Int) → Prop} (hk1 : K a0 = some (0, 8)) (hC : j_Ct G jm_Mo_put d 0 0 [jr_ a0, ji_ 32] (N, K, M, g) (j_pV N K g q)) (k1 : ∀ M', q M' → j_J G jm_Mo_putHunk (d + 1) B S 42 [jr_ a0, ji_ x1, ji_ x2, u3] [] (N, K, M', g) Q) : j_J G jm_Mo_putHunk (d + 1) B S 36 [jr_ a0, ji_ x1, ji_ x2, u3] [] (N, K, M, g) Q :=
  j_aload_n d_Mo_putHunk_36 rfl <| j_bipush d_Mo_putHunk_37 (by decide) <| j_aVV (as := [ji_ 32]) (rest := []) d_Mo_putHunk_39 c_Mo_154 hk1 rfl (Nat.le_of_ble_eq_true rfl) hC k1
theorem s_Mo_putHunk_42 {G : j_G} {d B S N : Nat} {K : Nat → Option (Nat × Nat)} {M : Nat → Int → Int} {g : Nat → Int → Option Nat} {Q : j_O → j_S → Prop} {a0 : Nat} {x1 x2 : Int} {u3 : j_V} {q : Int → (Nat → Int → Int) → Prop} (hk1 : K a0 = some (0, 8)) (hC : j_Ct G jm_Mo_others d 0 0 [jr_ a0, ji_ 0, ji_ x1, ji_ 45] (N, K, M, g) (j_pI N K g q)) (k1 : ∀ z M', q z M' → j_J G jm_Mo_putHunk (d + 1) B S 51 [jr_ a0, ji_ x1, ji_ x2, u3] [ji_ z, jr_ a0] (N, K, M', g) Q) : j_J G jm_Mo_putHunk (d + 1) B S 42 [jr_ a0, ji_ x1, ji_ x2, u3] [] (N, K, M, g) Q :=
  j_aload_n d_Mo_putHunk_42 rfl <| j_aload_n d_Mo_putHunk_43 rfl <| j_iconst d_Mo_putHunk_44 <| j_iload_n d_Mo_putHunk_45 rfl <| j_bipush d_Mo_putHunk_46 (by decide) <| j_aVI (as := [ji_ 0, ji_ x1, ji_ 45]) (rest := [jr_ a0]) d_Mo_putHunk_48 c_Mo_157 hk1 rfl (Nat.le_of_ble_eq_true rfl) hC k1
theorem s_Mo_putHunk_51 {G : j_G} {d B S N : Nat} {K : Nat → Option (Nat × Nat)} {M : Nat → Int → Int} {g : Nat → Int → Option Nat} {Q : j_O → j_S → Prop} {a0 b0 : Nat} {x1 x2 t1 : Int} {u3 : j_V} {q : (Nat → Int → Int) → Prop} (hk1 : K b0 = some (0, 8)) (hC : j_Ct G jm_Mo_putNumber d 0 0 [jr_ b0, ji_ t1] (N, K, M, g) (j_pV N K g q)) (k1 : ∀ M', q M' → j_J G jm_Mo_putHunk (d + 1) B S 54 [jr_ a0, ji_ x1, ji_ x2, u3] [] (N, K, M', g) Q) : j_J G jm_Mo_putHunk (d + 1) B S 51 [jr_ a0, ji_ x1, ji_ x2, u3] [ji_ t1, jr_ b0] (N, K, M, g) Q :=
  j_aVV (as := [ji_ t1]) (rest := []) d_Mo_putHunk_51 c_Mo_161 hk1 rfl (Nat.le_of_ble_eq_true rfl) hC k1
theorem s_Mo_putHunk_54 {G : j_G} {d B S N : Nat} {K : Nat → Option (Nat × Nat)} {M : Nat → Int → Int} {g : Nat → Int → Option Nat} {Q : j_O → j_S → Prop} {a0 : Nat} {x1 x2 : Int} {u3 : j_V} {q : (Nat → Int → Int) → Prop} (hk1 : K a0 = some (0, 8)) (hC : j_Ct G jm_Mo_put d 0 0 [jr_ a0, ji_ 44] (N, K, M, g) (j_pV N K g q)) (k1 : ∀ M', q M' → j_J G jm_Mo_putHunk (d + 1) B S 60 [jr_ a0, ji_ x1, ji_ x2, u3] [] (N, K, M', g) Q) : j_J G jm_Mo_putHunk (d + 1) B S 54 [jr_ a0, ji_ x1, ji_ x2, u3] [] (N, K, M, g) Q :=
  j_aload_n d_Mo_putHunk_54 rfl <| j_bipush d_Mo_putHunk_55 (by decide) <| j_aVV (as := [ji_ 44]) (rest := []) d_Mo_putHunk_57 c_Mo_154 hk1 rfl (Nat.le_of_ble_eq_true rfl) hC k1
theorem s_Mo_putHunk_60 {G : j_G} {d B S N : Nat} {K : Nat → Option (Nat × Nat)} {M : Nat → Int → Int} {g : Nat → Int → Option Nat} {Q : j_O → j_S → Prop} {a0 : Nat} {x1 x2 : Int} {u3 : j_V} {q : Int → (Nat → Int → Int) → Prop} (hk1 : K a0 = some (0, 8)) (hC : j_Ct G jm_Mo_others d 0 0 [jr_ a0, ji_ x1, ji_ x2, ji_ 45] (N, K, M, g) (j_pI N K g q)) (k1 : ∀ z M', q z M' → j_J G jm_Mo_putHunk (d + 1) B S 69 [jr_ a0, ji_ x1, ji_ x2, u3] [ji_ z, jr_ a0] (N, K, M', g) Q) : j_J G jm_Mo_putHunk (d + 1) B S 60 [jr_ a0, ji_ x1, ji_ x2, u3] [] (N, K, M, g) Q :=
  j_aload_n d_Mo_putHunk_60 rfl <| j_aload_n d_Mo_putHunk_61 rfl <| j_iload_n d_Mo_putHunk_62 rfl <| j_iload_n d_Mo_putHunk_63 rfl <| j_bipush d_Mo_putHunk_64 (by decide) <| j_aVI (as := [ji_ x1, ji_ x2, ji_ 45]) (rest := [jr_ a0]) d_Mo_putHunk_66 c_Mo_157 hk1 rfl (Nat.le_of_ble_eq_true rfl) hC k1
theorem s_Mo_putHunk_69 {G : j_G} {d B S N : Nat} {K : Nat → Option (Nat × Nat)} {M : Nat → Int → Int} {g : Nat → Int → Option Nat} {Q : j_O → j_S → Prop} {a0 b0 : Nat} {x1 x2 t1 : Int} {u3 : j_V} {q : (Nat → Int → Int) → Prop} (hk1 : K b0 = some (0, 8)) (hC : j_Ct G jm_Mo_putNumber d 0 0 [jr_ b0, ji_ t1] (N, K, M, g) (j_pV N K g q)) (k1 : ∀ M', q M' → j_J G jm_Mo_putHunk (d + 1) B S 72 [jr_ a0, ji_ x1, ji_ x2, u3] [] (N, K, M', g) Q) : j_J G jm_Mo_putHunk (d + 1) B S 69 [jr_ a0, ji_ x1, ji_ x2, u3] [ji_ t1, jr_ b0] (N, K, M, g) Q :=
  j_aVV (as := [ji_ t1]) (rest := []) d_Mo_putHunk_69 c_Mo_161 hk1 rfl (Nat.le_of_ble_eq_true rfl) hC k1
theorem s_Mo_putHunk_72 {G : j_G} {d B S N : Nat} {K : Nat → Option (Nat × Nat)} {M : Nat → Int → Int} {g : Nat → Int → Option Nat} {Q : j_O → j_S → Prop} {a0 : Nat} {x1 x2 : Int} {u3 : j_V} {q : (Nat → Int → Int) → Prop} (hk1 : K a0 = some (0, 8)) (hC : j_Ct G jm_Mo_put d 0 0 [jr_ a0, ji_ 10] (N, K, M, g) (j_pV N K g q)) (k1 : ∀ M', q M' → j_J G jm_Mo_putHunk (d + 1) B S 78 [jr_ a0, ji_ x1, ji_ x2, u3] [] (N, K, M', g) Q) : j_J G jm_Mo_putHunk (d + 1) B S 72 [jr_ a0, ji_ x1, ji_ x2, u3] [] (N, K, M, g) Q :=
  j_aload_n d_Mo_putHunk_72 rfl <| j_bipush d_Mo_putHunk_73 (by decide) <| j_aVV (as := [ji_ 10]) (rest := []) d_Mo_putHunk_75 c_Mo_154 hk1 rfl (Nat.le_of_ble_eq_true rfl) hC k1
theorem s_Mo_putHunk_78 {G : j_G} {d B S N : Nat} {K : Nat → Option (Nat × Nat)} {M : Nat → Int → Int} {g : Nat → Int → Option Nat} {Q : j_O → j_S → Prop} {a0 : Nat} {x1 x2 : Int} {u3 : j_V}  (k1 : j_J G jm_Mo_putHunk d B S 80 [jr_ a0, ji_ x1, ji_ x2, ji_ x1] [] (N, K, M, g) Q) : j_J G jm_Mo_putHunk d B S 78 [jr_ a0, ji_ x1, ji_ x2, u3] [] (N, K, M, g) Q :=
  j_iload_n d_Mo_putHunk_78 rfl <| j_istore_n d_Mo_putHunk_79 rfl rfl <| k1
theorem s_Mo_putHunk_80 {G : j_G} {d B S N : Nat} {K : Nat → Option (Nat × Nat)} {M : Nat → Int → Int} {g : Nat → Int → Option Nat} {Q : j_O → j_S → Prop} {a0 : Nat} {x1 x2 x3 : Int} (r1 : -2147483648 ≤ x3 ∧ x3 ≤ 2147483647 := by omega) (r2 : -2147483648 ≤ x2 ∧ x2 ≤ 2147483647 := by omega) (k1 : x2 ≤ x3 → Q (.inl none) (N, K, M, g)) (k2 : x3 < x2 → j_J G jm_Mo_putHunk d B S 85 [jr_ a0, ji_ x1, ji_ x2, ji_ x3] [] (N, K, M, g) Q) : j_J G jm_Mo_putHunk d B S 80 [jr_ a0, ji_ x1, ji_ x2, ji_ x3] [] (N, K, M, g) Q :=
  j_iload_n d_Mo_putHunk_80 rfl <| j_iload_n d_Mo_putHunk_81 rfl <| j_icmp_ge d_Mo_putHunk_82 r1 r2 (fun h => j_vreturn d_Mo_putHunk_117 rfl <| k1 h) k2
theorem s_Mo_putHunk_85 {G : j_G} {d B S N : Nat} {K : Nat → Option (Nat × Nat)} {M : Nat → Int → Int} {g : Nat → Int → Option Nat} {Q : j_O → j_S → Prop} {a0 y1 n2 : Nat} {x1 x2 x3 : Int} {q : (Nat → Int → Int) → Prop} (hk1 : K a0 = some (0, 8)) (hg2 : g a0 22 = some y1) (hk2 : K y1 = some (1, n2)) (r3 : 0 ≤ x3 := by omega) (r3' : x3 < (n2 : Int) := by omega) (hC : j_Ct G jm_Mo_put d 0 0 [jr_ a0, ji_ (M y1 x3)] (N, K, M, g) (j_pV N K g q)) (k1 : ∀ M', q M' → j_J G jm_Mo_putHunk (d + 1) B S 95 [jr_ a0, ji_ x1, ji_ x2, ji_ x3] [] (N, K, M', g) Q) : j_J G jm_Mo_putHunk (d + 1) B S 85 [jr_ a0, ji_ x1, ji_ x2, ji_ x3] [] (N, K, M, g) Q :=
  j_aload_n d_Mo_putHunk_85 rfl <| j_aload_n d_Mo_putHunk_86 rfl <| j_getR d_Mo_putHunk_87 f_Mo_55 hk1 hg2 <| j_iload_n d_Mo_putHunk_90 rfl <| j_iald d_Mo_putHunk_91 hk2 r3 r3' <| j_aVV (as := [ji_ (M y1 x3)]) (rest := []) d_Mo_putHunk_92 c_Mo_154 hk1 rfl (Nat.le_of_ble_eq_true rfl) hC k1
theorem s_Mo_putHunk_95 {G : j_G} {d B S N : Nat} {K : Nat → Option (Nat × Nat)} {M : Nat → Int → Int} {g : Nat → Int → Option Nat} {Q : j_O → j_S → Prop} {a0 y1 n2 : Nat} {x1 x2 x3 : Int} {q : (Nat → Int → Int) → Prop} (hk1 : K a0 = some (0, 8)) (hg2 : g a0 23 = some y1) (hk2 : K y1 = some (1, n2)) (r3 : 0 ≤ x3 := by omega) (r3' : x3 < (n2 : Int) := by omega) (hC : j_Ct G jm_Mo_put d 0 0 [jr_ a0, ji_ (M y1 x3)] (N, K, M, g) (j_pV N K g q)) (k1 : ∀ M', q M' → j_J G jm_Mo_putHunk (d + 1) B S 105 [jr_ a0, ji_ x1, ji_ x2, ji_ x3] [] (N, K, M', g) Q) : j_J G jm_Mo_putHunk (d + 1) B S 95 [jr_ a0, ji_ x1, ji_ x2, ji_ x3] [] (N, K, M, g) Q :=
  j_aload_n d_Mo_putHunk_95 rfl <| j_aload_n d_Mo_putHunk_96 rfl <| j_getR d_Mo_putHunk_97 f_Mo_58 hk1 hg2 <| j_iload_n d_Mo_putHunk_100 rfl <| j_iald d_Mo_putHunk_101 hk2 r3 r3' <| j_aVV (as := [ji_ (M y1 x3)]) (rest := []) d_Mo_putHunk_102 c_Mo_154 hk1 rfl (Nat.le_of_ble_eq_true rfl) hC k1
theorem s_Mo_putHunk_105 {G : j_G} {d B S N : Nat} {K : Nat → Option (Nat × Nat)} {M : Nat → Int → Int} {g : Nat → Int → Option Nat} {Q : j_O → j_S → Prop} {a0 : Nat} {x1 x2 x3 : Int} {q : (Nat → Int → Int) → Prop} (hk1 : K a0 = some (0, 8)) (hC : j_Ct G jm_Mo_put d 0 0 [jr_ a0, ji_ 10] (N, K, M, g) (j_pV N K g q)) (k1 : ∀ M', q M' → j_J G jm_Mo_putHunk (d + 1) B S 111 [jr_ a0, ji_ x1, ji_ x2, ji_ x3] [] (N, K, M', g) Q) : j_J G jm_Mo_putHunk (d + 1) B S 105 [jr_ a0, ji_ x1, ji_ x2, ji_ x3] [] (N, K, M, g) Q :=
  j_aload_n d_Mo_putHunk_105 rfl <| j_bipush d_Mo_putHunk_106 (by decide) <| j_aVV (as := [ji_ 10]) (rest := []) d_Mo_putHunk_108 c_Mo_154 hk1 rfl (Nat.le_of_ble_eq_true rfl) hC k1
theorem s_Mo_putHunk_111 {G : j_G} {d B S N : Nat} {K : Nat → Option (Nat × Nat)} {M : Nat → Int → Int} {g : Nat → Int → Option Nat} {Q : j_O → j_S → Prop} {a0 : Nat} {x1 x2 x3 : Int}  (k1 : j_J G jm_Mo_putHunk d B S 80 [jr_ a0, ji_ x1, ji_ x2, ji_ (x3 + 1)] [] (N, K, M, g) Q) : j_J G jm_Mo_putHunk d B S 111 [jr_ a0, ji_ x1, ji_ x2, ji_ x3] [] (N, K, M, g) Q :=
  j_iinc d_Mo_putHunk_111 rfl rfl rfl <| j_goto d_Mo_putHunk_114 k1
theorem s_Mo_putHunk_117 {G : j_G} {d B S N : Nat} {K : Nat → Option (Nat × Nat)} {M : Nat → Int → Int} {g : Nat → Int → Option Nat} {Q : j_O → j_S → Prop} {a0 : Nat} {x1 x2 x3 : Int}  (k1 : Q (.inl none) (N, K, M, g)) : j_J G jm_Mo_putHunk d B S 117 [jr_ a0, ji_ x1, ji_ x2, ji_ x3] [] (N, K, M, g) Q :=
  j_vreturn d_Mo_putHunk_117 rfl k1
theorem s_Mo_lastOf_0 {G : j_G} {d B S N : Nat} {K : Nat → Option (Nat × Nat)} {M : Nat → Int → Int} {g : Nat → Int → Option Nat} {Q : j_O → j_S → Prop} {a0 : Nat} {x1 x2 : Int} {u3 u4 : j_V}  (k1 : j_J G jm_Mo_lastOf d B S 5 [jr_ a0, ji_ x1, ji_ x2, ji_ x1, ji_ x1] [] (N, K, M, g) Q) : j_J G jm_Mo_lastOf d B S 0 [jr_ a0, ji_ x1, ji_ x2, u3, u4] [] (N, K, M, g) Q :=
  j_iload_n d_Mo_lastOf_0 rfl <| j_istore_n d_Mo_lastOf_1 rfl rfl <| j_iload_n d_Mo_lastOf_2 rfl <| j_istore d_Mo_lastOf_3 rfl rfl <| k1
theorem s_Mo_lastOf_5 {G : j_G} {d B S N : Nat} {K : Nat → Option (Nat × Nat)} {M : Nat → Int → Int} {g : Nat → Int → Option Nat} {Q : j_O → j_S → Prop} {a0 : Nat} {x1 x2 x3 x4 : Int} (hk1 : K a0 = some (0, 8)) (r1 : -2147483648 ≤ x4 ∧ x4 ≤ 2147483647 := by omega) (r2 : -2147483648 ≤ (M a0 21) ∧ (M a0 21) ≤ 2147483647 := by omega) (k1 : (M a0 21) ≤ x4 → Q (.inl (some (ji_ x3))) (N, K, M, g)) (k2 : x4 < (M a0 21) → j_J G jm_Mo_lastOf d B S 14 [jr_ a0, ji_ x1, ji_ x2, ji_ x3, ji_ x4] [] (N, K, M, g) Q) : j_J G jm_Mo_lastOf d B S 5 [jr_ a0, ji_ x1, ji_ x2, ji_ x3, ji_ x4] [] (N, K, M, g) Q :=
  j_iload d_Mo_lastOf_5 rfl <| j_aload_n d_Mo_lastOf_7 rfl <| j_getI d_Mo_lastOf_8 f_Mo_145 hk1 <| j_icmp_ge d_Mo_lastOf_11 r1 r2 (fun h => j_iload_n d_Mo_lastOf_51 rfl <| j_ireturn d_Mo_lastOf_52 rfl <| k1 h) k2
theorem s_Mo_lastOf_14 {G : j_G} {d B S N : Nat} {K : Nat → Option (Nat × Nat)} {M : Nat → Int → Int} {g : Nat → Int → Option Nat} {Q : j_O → j_S → Prop} {a0 : Nat} {x1 x2 x3 x4 : Int} (r1 : -2147483648 ≤ (x4 - x3) ∧ (x4 - x3) ≤ 2147483647 := by omega) (r2 : -2147483648 ≤ (2 * x2) ∧ (2 * x2) ≤ 2147483647 := by omega) (k1 : (2 * x2) < (x4 - x3) → Q (.inl (some (ji_ x3))) (N, K, M, g)) (k2 : (x4 - x3) ≤ (2 * x2) → j_J G jm_Mo_lastOf d B S 24 [jr_ a0, ji_ x1, ji_ x2, ji_ x3, ji_ x4] [] (N, K, M, g) Q) : j_J G jm_Mo_lastOf d B S 14 [jr_ a0, ji_ x1, ji_ x2, ji_ x3, ji_ x4] [] (N, K, M, g) Q :=
  j_iload d_Mo_lastOf_14 rfl <| j_iload_n d_Mo_lastOf_16 rfl <| j_isub d_Mo_lastOf_17 <| j_iconst d_Mo_lastOf_18 <| j_iload_n d_Mo_lastOf_19 rfl <| j_imul d_Mo_lastOf_20 <| j_icmp_gt d_Mo_lastOf_21 r1 r2 (fun h => j_iload_n d_Mo_lastOf_51 rfl <| j_ireturn d_Mo_lastOf_52 rfl <| k1 h) k2
theorem s_Mo_lastOf_24 {G : j_G} {d B S N : Nat} {K : Nat → Option (Nat × Nat)} {M : Nat → Int → Int} {g : Nat → Int → Option Nat} {Q : j_O → j_S → Prop} {a0 y1 n2 : Nat} {x1 x2 x3 x4 : Int} (hk1 : K a0 = some (0, 8)) (hg2 : g a0 22 = some y1) (hk2 : K y1 = some (1, n2)) (r3 : 0 ≤ x4 := by omega) (r3' : x4 < (n2 : Int) := by omega) (r4 : -2147483648 ≤ (M y1 x4) ∧ (M y1 x4) ≤ 2147483647 := by omega) (k1 : (M y1 x4) = 32 → j_J G jm_Mo_lastOf d B S 5 [jr_ a0, ji_ x1, ji_ x2, ji_ x3, ji_ (x4 + 1)] [] (N, K, M, g) Q) (k2 : (M y1 x4) ≠ 32 → j_J G jm_Mo_lastOf d B S 5 [jr_ a0, ji_ x1, ji_ x2, ji_ (x4 + 1), ji_ (x4 + 1)] [] (N, K, M, g) Q) : j_J G jm_Mo_lastOf d B S 24 [jr_ a0, ji_ x1, ji_ x2, ji_ x3, ji_ x4] [] (N, K, M, g) Q :=
  j_aload_n d_Mo_lastOf_24 rfl <| j_getR d_Mo_lastOf_25 f_Mo_55 hk1 hg2 <| j_iload d_Mo_lastOf_28 rfl <| j_iald d_Mo_lastOf_30 hk2 r3 r3' <| j_bipush d_Mo_lastOf_31 (by decide) <| j_icmp_eq d_Mo_lastOf_33 r4 (by decide) (fun h => j_iload_n d_Mo_lastOf_43 rfl <| j_istore_n d_Mo_lastOf_44 rfl rfl <| j_iinc d_Mo_lastOf_45 rfl rfl rfl <| j_goto d_Mo_lastOf_48 <| k1 h) (fun h => j_iload d_Mo_lastOf_36 rfl <| j_iconst d_Mo_lastOf_38 <| j_iadd d_Mo_lastOf_39 <| j_goto d_Mo_lastOf_40 <| j_istore_n d_Mo_lastOf_44 rfl rfl <| j_iinc d_Mo_lastOf_45 rfl rfl rfl <| j_goto d_Mo_lastOf_48 <| k2 h)
theorem s_Mo_lastOf_36 {G : j_G} {d B S N : Nat} {K : Nat → Option (Nat × Nat)} {M : Nat → Int → Int} {g : Nat → Int → Option Nat} {Q : j_O → j_S → Prop} {a0 : Nat} {x1 x2 x3 x4 : Int}  (k1 : j_J G jm_Mo_lastOf d B S 5 [jr_ a0, ji_ x1, ji_ x2, ji_ (x4 + 1), ji_ (x4 + 1)] [] (N, K, M, g) Q) : j_J G jm_Mo_lastOf d B S 36 [jr_ a0, ji_ x1, ji_ x2, ji_ x3, ji_ x4] [] (N, K, M, g) Q :=
  j_iload d_Mo_lastOf_36 rfl <| j_iconst d_Mo_lastOf_38 <| j_iadd d_Mo_lastOf_39 <| j_goto d_Mo_lastOf_40 (j_istore_n d_Mo_lastOf_44 rfl rfl <| j_iinc d_Mo_lastOf_45 rfl rfl rfl <| j_goto d_Mo_lastOf_48 <| k1)
theorem s_Mo_lastOf_43 {G : j_G} {d B S N : Nat} {K : Nat → Option (Nat × Nat)} {M : Nat → Int → Int} {g : Nat → Int → Option Nat} {Q : j_O → j_S → Prop} {a0 : Nat} {x1 x2 x3 x4 : Int}  (k1 : j_J G jm_Mo_lastOf d B S 5 [jr_ a0, ji_ x1, ji_ x2, ji_ x3, ji_ (x4 + 1)] [] (N, K, M, g) Q) : j_J G jm_Mo_lastOf d B S 43 [jr_ a0, ji_ x1, ji_ x2, ji_ x3, ji_ x4] [] (N, K, M, g) Q :=
  j_iload_n d_Mo_lastOf_43 rfl <| (j_istore_n d_Mo_lastOf_44 rfl rfl <| j_iinc d_Mo_lastOf_45 rfl rfl rfl <| j_goto d_Mo_lastOf_48 <| k1)
theorem s_Mo_lastOf_44 {G : j_G} {d B S N : Nat} {K : Nat → Option (Nat × Nat)} {M : Nat → Int → Int} {g : Nat → Int → Option Nat} {Q : j_O → j_S → Prop} {a0 : Nat} {x1 x2 x3 x4 t0 : Int}  (k1 : j_J G jm_Mo_lastOf d B S 5 [jr_ a0, ji_ x1, ji_ x2, ji_ t0, ji_ (x4 + 1)] [] (N, K, M, g) Q) : j_J G jm_Mo_lastOf d B S 44 [jr_ a0, ji_ x1, ji_ x2, ji_ x3, ji_ x4] [ji_ t0] (N, K, M, g) Q :=
  j_istore_n d_Mo_lastOf_44 rfl rfl <| j_iinc d_Mo_lastOf_45 rfl rfl rfl <| j_goto d_Mo_lastOf_48 k1
theorem s_Mo_lastOf_51 {G : j_G} {d B S N : Nat} {K : Nat → Option (Nat × Nat)} {M : Nat → Int → Int} {g : Nat → Int → Option Nat} {Q : j_O → j_S → Prop} {a0 : Nat} {x1 x2 x3 x4 : Int}  (k1 : Q (.inl (some (ji_ x3))) (N, K, M, g)) : j_J G jm_Mo_lastOf d B S 51 [jr_ a0, ji_ x1, ji_ x2, ji_ x3, ji_ x4] [] (N, K, M, g) Q :=
  j_iload_n d_Mo_lastOf_51 rfl <| j_ireturn d_Mo_lastOf_52 rfl k1
theorem s_Mo_write_0 {G : j_G} {d B S N : Nat} {K : Nat → Option (Nat × Nat)} {M : Nat → Int → Int} {g : Nat → Int → Option Nat} {Q : j_O → j_S → Prop} {a0 : Nat} {x1 : Int} {u2 u3 u4 u5 u6 : j_V} {q : Int → (Nat → Int → Int) → Prop} (hC : j_Ct G jm_Mo_within d 0 0 [ji_ x1, ji_ 0, ji_ 3] (N, K, M, g) (j_pI N K g q)) (k1 : ∀ z M', q z M' → j_J G jm_Mo_write (d + 1) B S 6 [jr_ a0, ji_ x1, u2, u3, u4, u5, u6] [ji_ z] (N, K, M', g) Q) : j_J G jm_Mo_write (d + 1) B S 0 [jr_ a0, ji_ x1, u2, u3, u4, u5, u6] [] (N, K, M, g) Q :=
  j_iload_n d_Mo_write_0 rfl <| j_iconst d_Mo_write_1 <| j_iconst d_Mo_write_2 <| j_aSI (as := [ji_ x1, ji_ 0, ji_ 3]) (rest := []) d_Mo_write_3 c_Mo_88 rfl (Nat.le_of_ble_eq_true rfl) hC k1
theorem s_Mo_write_6 {G : j_G} {d B S N : Nat} {K : Nat → Option (Nat × Nat)} {M : Nat → Int → Int} {g : Nat → Int → Option Nat} {Q : j_O → j_S → Prop} {a0 : Nat} {x1 t0 : Int} {u2 u3 u4 u5 u6 : j_V} (r1 : -2147483648 ≤ t0 ∧ t0 ≤ 2147483647 := by omega) (k1 : t0 ≠ 0 → j_J G jm_Mo_write d B S 11 [jr_ a0, ji_ x1, u2, u3, u4, u5, u6] [] (N, K, M, g) Q) (k2 : t0 = 0 → Q (.inl (some (ji_ (-1)))) (N, K, M, g)) : j_J G jm_Mo_write d B S 6 [jr_ a0, ji_ x1, u2, u3, u4, u5, u6] [ji_ t0] (N, K, M, g) Q :=
  j_if_ne d_Mo_write_6 r1 k1 (fun h => j_iconst d_Mo_write_9 <| j_ireturn d_Mo_write_10 rfl <| k2 h)
theorem s_Mo_write_9 {G : j_G} {d B S N : Nat} {K : Nat → Option (Nat × Nat)} {M : Nat → Int → Int} {g : Nat → Int → Option Nat} {Q : j_O → j_S → Prop} {a0 : Nat} {x1 : Int} {u2 u3 u4 u5 u6 : j_V}  (k1 : Q (.inl (some (ji_ (-1)))) (N, K, M, g)) : j_J G jm_Mo_write d B S 9 [jr_ a0, ji_ x1, u2, u3, u4, u5, u6] [] (N, K, M, g) Q :=
  j_iconst d_Mo_write_9 <| j_ireturn d_Mo_write_10 rfl k1
theorem s_Mo_write_11 {G : j_G} {d B S N : Nat} {K : Nat → Option (Nat × Nat)} {M : Nat → Int → Int} {g : Nat → Int → Option Nat} {Q : j_O → j_S → Prop} {a0 : Nat} {x1 : Int} {u2 u3 u4 u5 u6 : j_V} (hk1 : K a0 = some (0, 8)) (r1 : -2147483648 ≤ (M a0 15) ∧ (M a0 15) ≤ 2147483647 := by omega) (k1 : (M a0 15) ≠ 0 → j_J G jm_Mo_write d B S 21 [jr_ a0, ji_ x1, u2, u3, u4, u5, u6] [] (N, K, M, g) Q) (k2 : (M a0 15) = 0 → Q (.inl (some (ji_ (-3)))) (N, K, M, g)) : j_J G jm_Mo_write d B S 11 [jr_ a0, ji_ x1, u2, u3, u4, u5, u6] [] (N, K, M, g) Q :=
  j_aload_n d_Mo_write_11 rfl <| j_getI d_Mo_write_12 f_Mo_135 hk1 <| j_if_ne d_Mo_write_15 r1 k1 (fun h => j_bipush d_Mo_write_18 (by decide) <| j_ireturn d_Mo_write_20 rfl <| k2 h)
theorem s_Mo_write_18 {G : j_G} {d B S N : Nat} {K : Nat → Option (Nat × Nat)} {M : Nat → Int → Int} {g : Nat → Int → Option Nat} {Q : j_O → j_S → Prop} {a0 : Nat} {x1 : Int} {u2 u3 u4 u5 u6 : j_V}  (k1 : Q (.inl (some (ji_ (-3)))) (N, K, M, g)) : j_J G jm_Mo_write d B S 18 [jr_ a0, ji_ x1, u2, u3, u4, u5, u6] [] (N, K, M, g) Q :=
  j_bipush d_Mo_write_18 (by decide) <| j_ireturn d_Mo_write_20 rfl k1
theorem s_Mo_write_21 {G : j_G} {d B S N : Nat} {K : Nat → Option (Nat × Nat)} {M : Nat → Int → Int} {g : Nat → Int → Option Nat} {Q : j_O → j_S → Prop} {a0 : Nat} {x1 : Int} {u2 u3 u4 u5 u6 : j_V} {q : (Nat → Int → Int) → Prop} (hk1 : K a0 = some (0, 8)) (hC : j_Ct G jm_Mo_row d 0 0 [jr_ a0] (N, K, M, g) (j_pV N K g q)) (k1 : ∀ M', q M' → j_J G jm_Mo_write (d + 1) B S 25 [jr_ a0, ji_ x1, u2, u3, u4, u5, u6] [] (N, K, M', g) Q) : j_J G jm_Mo_write (d + 1) B S 21 [jr_ a0, ji_ x1, u2, u3, u4, u5, u6] [] (N, K, M, g) Q :=
  j_aload_n d_Mo_write_21 rfl <| j_aVV (as := []) (rest := []) d_Mo_write_22 c_Mo_164 hk1 rfl (Nat.le_of_ble_eq_true rfl) hC k1
theorem s_Mo_write_25 {G : j_G} {d B S N : Nat} {K : Nat → Option (Nat × Nat)} {M : Nat → Int → Int} {g : Nat → Int → Option Nat} {Q : j_O → j_S → Prop} {a0 : Nat} {x1 : Int} {u2 u3 u4 u5 u6 : j_V} (hk1 : K a0 = some (0, 8)) (k1 : j_J G jm_Mo_write d B S 34 [jr_ a0, ji_ x1, ji_ 0, ji_ 0, u4, u5, u6] [] (N, K, (j_up M a0 24 0), g) Q) : j_J G jm_Mo_write d B S 25 [jr_ a0, ji_ x1, u2, u3, u4, u5, u6] [] (N, K, M, g) Q :=
  j_aload_n d_Mo_write_25 rfl <| j_iconst d_Mo_write_26 <| j_putI d_Mo_write_27 f_Mo_151 (⟨_, rfl, Or.inl rfl⟩) rfl hk1 <| j_iconst d_Mo_write_30 <| j_istore_n d_Mo_write_31 rfl rfl <| j_iconst d_Mo_write_32 <| j_istore_n d_Mo_write_33 rfl rfl <| k1
theorem s_Mo_write_34 {G : j_G} {d B S N : Nat} {K : Nat → Option (Nat × Nat)} {M : Nat → Int → Int} {g : Nat → Int → Option Nat} {Q : j_O → j_S → Prop} {a0 : Nat} {x1 x2 x3 : Int} {u4 u5 u6 : j_V} (hk1 : K a0 = some (0, 8)) (r1 : -2147483648 ≤ x3 ∧ x3 ≤ 2147483647 := by omega) (r2 : -2147483648 ≤ (M a0 21) ∧ (M a0 21) ≤ 2147483647 := by omega) (k1 : (M a0 21) ≤ x3 → Q (.inl (some (ji_ x2))) (N, K, M, g)) (k2 : x3 < (M a0 21) → j_J G jm_Mo_write d B S 42 [jr_ a0, ji_ x1, ji_ x2, ji_ x3, u4, u5, u6] [] (N, K, M, g) Q) : j_J G jm_Mo_write d B S 34 [jr_ a0, ji_ x1, ji_ x2, ji_ x3, u4, u5, u6] [] (N, K, M, g) Q :=
  j_iload_n d_Mo_write_34 rfl <| j_aload_n d_Mo_write_35 rfl <| j_getI d_Mo_write_36 f_Mo_145 hk1 <| j_icmp_ge d_Mo_write_39 r1 r2 (fun h => j_iload_n d_Mo_write_122 rfl <| j_ireturn d_Mo_write_123 rfl <| k1 h) k2
theorem s_Mo_write_42 {G : j_G} {d B S N : Nat} {K : Nat → Option (Nat × Nat)} {M : Nat → Int → Int} {g : Nat → Int → Option Nat} {Q : j_O → j_S → Prop} {a0 y1 n2 : Nat} {x1 x2 x3 : Int} {u4 u5 u6 : j_V} (hk1 : K a0 = some (0, 8)) (hg2 : g a0 22 = some y1) (hk2 : K y1 = some (1, n2)) (r3 : 0 ≤ x3 := by omega) (r3' : x3 < (n2 : Int) := by omega) (r4 : -2147483648 ≤ (M y1 x3) ∧ (M y1 x3) ≤ 2147483647 := by omega) (k1 : (M y1 x3) ≠ 32 → j_J G jm_Mo_write d B S 59 [jr_ a0, ji_ x1, ji_ x2, ji_ x3, u4, u5, u6] [] (N, K, M, g) Q) (k2 : (M y1 x3) = 32 → j_J G jm_Mo_write d B S 34 [jr_ a0, ji_ x1, ji_ x2, ji_ (x3 + 1), u4, u5, u6] [] (N, K, M, g) Q) : j_J G jm_Mo_write d B S 42 [jr_ a0, ji_ x1, ji_ x2, ji_ x3, u4, u5, u6] [] (N, K, M, g) Q :=
  j_aload_n d_Mo_write_42 rfl <| j_getR d_Mo_write_43 f_Mo_55 hk1 hg2 <| j_iload_n d_Mo_write_46 rfl <| j_iald d_Mo_write_47 hk2 r3 r3' <| j_bipush d_Mo_write_48 (by decide) <| j_icmp_ne d_Mo_write_50 r4 (by decide) k1 (fun h => j_iinc d_Mo_write_53 rfl rfl rfl <| j_goto d_Mo_write_56 <| k2 h)
theorem s_Mo_write_53 {G : j_G} {d B S N : Nat} {K : Nat → Option (Nat × Nat)} {M : Nat → Int → Int} {g : Nat → Int → Option Nat} {Q : j_O → j_S → Prop} {a0 : Nat} {x1 x2 x3 : Int} {u4 u5 u6 : j_V}  (k1 : j_J G jm_Mo_write d B S 34 [jr_ a0, ji_ x1, ji_ x2, ji_ (x3 + 1), u4, u5, u6] [] (N, K, M, g) Q) : j_J G jm_Mo_write d B S 53 [jr_ a0, ji_ x1, ji_ x2, ji_ x3, u4, u5, u6] [] (N, K, M, g) Q :=
  j_iinc d_Mo_write_53 rfl rfl rfl <| j_goto d_Mo_write_56 k1
theorem s_Mo_write_59 {G : j_G} {d B S N : Nat} {K : Nat → Option (Nat × Nat)} {M : Nat → Int → Int} {g : Nat → Int → Option Nat} {Q : j_O → j_S → Prop} {a0 : Nat} {x1 x2 x3 : Int} {u4 u5 u6 : j_V} {q : Int → (Nat → Int → Int) → Prop} (hk1 : K a0 = some (0, 8)) (hC : j_Ct G jm_Mo_lastOf d 0 0 [jr_ a0, ji_ x3, ji_ x1] (N, K, M, g) (j_pI N K g q)) (k1 : ∀ z M', q z M' → j_J G jm_Mo_write (d + 1) B S 65 [jr_ a0, ji_ x1, ji_ x2, ji_ x3, u4, u5, u6] [ji_ z] (N, K, M', g) Q) : j_J G jm_Mo_write (d + 1) B S 59 [jr_ a0, ji_ x1, ji_ x2, ji_ x3, u4, u5, u6] [] (N, K, M, g) Q :=
  j_aload_n d_Mo_write_59 rfl <| j_iload_n d_Mo_write_60 rfl <| j_iload_n d_Mo_write_61 rfl <| j_aVI (as := [ji_ x3, ji_ x1]) (rest := []) d_Mo_write_62 c_Mo_167 hk1 rfl (Nat.le_of_ble_eq_true rfl) hC k1
theorem s_Mo_write_65 {G : j_G} {d B S N : Nat} {K : Nat → Option (Nat × Nat)} {M : Nat → Int → Int} {g : Nat → Int → Option Nat} {Q : j_O → j_S → Prop} {a0 : Nat} {x1 x2 x3 t0 : Int} {u4 u5 u6 : j_V} (r1 : -2147483648 ≤ x3 ∧ x3 ≤ 2147483647 := by omega) (r2 : -2147483648 ≤ x1 ∧ x1 ≤ 2147483647 := by omega) (k1 : x1 ≤ x3 → j_J G jm_Mo_write d B S 79 [jr_ a0, ji_ x1, ji_ x2, ji_ x3, ji_ t0, u5, u6] [ji_ (x3 - x1)] (N, K, M, g) Q) (k2 : x3 < x1 → j_J G jm_Mo_write d B S 79 [jr_ a0, ji_ x1, ji_ x2, ji_ x3, ji_ t0, u5, u6] [ji_ 0] (N, K, M, g) Q) : j_J G jm_Mo_write d B S 65 [jr_ a0, ji_ x1, ji_ x2, ji_ x3, u4, u5, u6] [ji_ t0] (N, K, M, g) Q :=
  j_istore d_Mo_write_65 rfl rfl <| j_iload_n d_Mo_write_67 rfl <| j_iload_n d_Mo_write_68 rfl <| j_icmp_ge d_Mo_write_69 r1 r2 (fun h => j_iload_n d_Mo_write_76 rfl <| j_iload_n d_Mo_write_77 rfl <| j_isub d_Mo_write_78 <| k1 h) (fun h => j_iconst d_Mo_write_72 <| j_goto d_Mo_write_73 <| k2 h)
theorem s_Mo_write_72 {G : j_G} {d B S N : Nat} {K : Nat → Option (Nat × Nat)} {M : Nat → Int → Int} {g : Nat → Int → Option Nat} {Q : j_O → j_S → Prop} {a0 : Nat} {x1 x2 x3 x4 : Int} {u5 u6 : j_V}  (k1 : j_J G jm_Mo_write d B S 79 [jr_ a0, ji_ x1, ji_ x2, ji_ x3, ji_ x4, u5, u6] [ji_ 0] (N, K, M, g) Q) : j_J G jm_Mo_write d B S 72 [jr_ a0, ji_ x1, ji_ x2, ji_ x3, ji_ x4, u5, u6] [] (N, K, M, g) Q :=
  j_iconst d_Mo_write_72 <| j_goto d_Mo_write_73 k1
theorem s_Mo_write_76 {G : j_G} {d B S N : Nat} {K : Nat → Option (Nat × Nat)} {M : Nat → Int → Int} {g : Nat → Int → Option Nat} {Q : j_O → j_S → Prop} {a0 : Nat} {x1 x2 x3 x4 : Int} {u5 u6 : j_V}  (k1 : j_J G jm_Mo_write d B S 79 [jr_ a0, ji_ x1, ji_ x2, ji_ x3, ji_ x4, u5, u6] [ji_ (x3 - x1)] (N, K, M, g) Q) : j_J G jm_Mo_write d B S 76 [jr_ a0, ji_ x1, ji_ x2, ji_ x3, ji_ x4, u5, u6] [] (N, K, M, g) Q :=
  j_iload_n d_Mo_write_76 rfl <| j_iload_n d_Mo_write_77 rfl <| j_isub d_Mo_write_78 <| k1
theorem s_Mo_write_79 {G : j_G} {d B S N : Nat} {K : Nat → Option (Nat × Nat)} {M : Nat → Int → Int} {g : Nat → Int → Option Nat} {Q : j_O → j_S → Prop} {a0 : Nat} {x1 x2 x3 x4 t0 : Int} {u5 u6 : j_V} (hk1 : K a0 = some (0, 8)) (r1 : -2147483648 ≤ (x4 + x1) ∧ (x4 + x1) ≤ 2147483647 := by omega) (r2 : -2147483648 ≤ (M a0 21) ∧ (M a0 21) ≤ 2147483647 := by omega) (k1 : (x4 + x1) ≤ (M a0 21) → j_J G jm_Mo_write d B S 103 [jr_ a0, ji_ x1, ji_ x2, ji_ x3, ji_ x4, ji_ t0, u6] [ji_ (x4 + x1)] (N, K, M, g) Q) (k2 : (M a0 21) < (x4 + x1) → j_J G jm_Mo_write d B S 92 [jr_ a0, ji_ x1, ji_ x2, ji_ x3, ji_ x4, ji_ t0, u6] [] (N, K, M, g) Q) : j_J G jm_Mo_write d B S 79 [jr_ a0, ji_ x1, ji_ x2, ji_ x3, ji_ x4, u5, u6] [ji_ t0] (N, K, M, g) Q :=
  j_istore d_Mo_write_79 rfl rfl <| j_iload d_Mo_write_81 rfl <| j_iload_n d_Mo_write_83 rfl <| j_iadd d_Mo_write_84 <| j_aload_n d_Mo_write_85 rfl <| j_getI d_Mo_write_86 f_Mo_145 hk1 <| j_icmp_le d_Mo_write_89 r1 r2 (fun h => j_iload d_Mo_write_99 rfl <| j_iload_n d_Mo_write_101 rfl <| j_iadd d_Mo_write_102 <| k1 h) k2
theorem s_Mo_write_92 {G : j_G} {d B S N : Nat} {K : Nat → Option (Nat × Nat)} {M : Nat → Int → Int} {g : Nat → Int → Option Nat} {Q : j_O → j_S → Prop} {a0 : Nat} {x1 x2 x3 x4 x5 : Int} {u6 : j_V} (hk1 : K a0 = some (0, 8)) (k1 : j_J G jm_Mo_write d B S 103 [jr_ a0, ji_ x1, ji_ x2, ji_ x3, ji_ x4, ji_ x5, u6] [ji_ (M a0 21)] (N, K, M, g) Q) : j_J G jm_Mo_write d B S 92 [jr_ a0, ji_ x1, ji_ x2, ji_ x3, ji_ x4, ji_ x5, u6] [] (N, K, M, g) Q :=
  j_aload_n d_Mo_write_92 rfl <| j_getI d_Mo_write_93 f_Mo_145 hk1 <| j_goto d_Mo_write_96 k1
theorem s_Mo_write_99 {G : j_G} {d B S N : Nat} {K : Nat → Option (Nat × Nat)} {M : Nat → Int → Int} {g : Nat → Int → Option Nat} {Q : j_O → j_S → Prop} {a0 : Nat} {x1 x2 x3 x4 x5 : Int} {u6 : j_V}  (k1 : j_J G jm_Mo_write d B S 103 [jr_ a0, ji_ x1, ji_ x2, ji_ x3, ji_ x4, ji_ x5, u6] [ji_ (x4 + x1)] (N, K, M, g) Q) : j_J G jm_Mo_write d B S 99 [jr_ a0, ji_ x1, ji_ x2, ji_ x3, ji_ x4, ji_ x5, u6] [] (N, K, M, g) Q :=
  j_iload d_Mo_write_99 rfl <| j_iload_n d_Mo_write_101 rfl <| j_iadd d_Mo_write_102 <| k1
theorem s_Mo_write_103 {G : j_G} {d B S N : Nat} {K : Nat → Option (Nat × Nat)} {M : Nat → Int → Int} {g : Nat → Int → Option Nat} {Q : j_O → j_S → Prop} {a0 : Nat} {x1 x2 x3 x4 x5 t0 : Int} {u6 : j_V} {q : (Nat → Int → Int) → Prop} (hk1 : K a0 = some (0, 8)) (hC : j_Ct G jm_Mo_putHunk d 0 0 [jr_ a0, ji_ x5, ji_ t0] (N, K, M, g) (j_pV N K g q)) (k1 : ∀ M', q M' → j_J G jm_Mo_write (d + 1) B S 113 [jr_ a0, ji_ x1, ji_ x2, ji_ x3, ji_ x4, ji_ x5, ji_ t0] [] (N, K, M', g) Q) : j_J G jm_Mo_write (d + 1) B S 103 [jr_ a0, ji_ x1, ji_ x2, ji_ x3, ji_ x4, ji_ x5, u6] [ji_ t0] (N, K, M, g) Q :=
  j_istore d_Mo_write_103 rfl rfl <| j_aload_n d_Mo_write_105 rfl <| j_iload d_Mo_write_106 rfl <| j_iload d_Mo_write_108 rfl <| j_aVV (as := [ji_ x5, ji_ t0]) (rest := []) d_Mo_write_110 c_Mo_171 hk1 rfl (Nat.le_of_ble_eq_true rfl) hC k1
theorem s_Mo_write_113 {G : j_G} {d B S N : Nat} {K : Nat → Option (Nat × Nat)} {M : Nat → Int → Int} {g : Nat → Int → Option Nat} {Q : j_O → j_S → Prop} {a0 : Nat} {x1 x2 x3 x4 x5 x6 : Int}  (k1 : j_J G jm_Mo_write d B S 34 [jr_ a0, ji_ x1, ji_ (x2 + 1), ji_ x4, ji_ x4, ji_ x5, ji_ x6] [] (N, K, M, g) Q) : j_J G jm_Mo_write d B S 113 [jr_ a0, ji_ x1, ji_ x2, ji_ x3, ji_ x4, ji_ x5, ji_ x6] [] (N, K, M, g) Q :=
  j_iinc d_Mo_write_113 rfl rfl rfl <| j_iload d_Mo_write_116 rfl <| j_istore_n d_Mo_write_118 rfl rfl <| j_goto d_Mo_write_119 k1
theorem s_Mo_write_122 {G : j_G} {d B S N : Nat} {K : Nat → Option (Nat × Nat)} {M : Nat → Int → Int} {g : Nat → Int → Option Nat} {Q : j_O → j_S → Prop} {a0 : Nat} {x1 x2 x3 : Int} {u4 u5 u6 : j_V}  (k1 : Q (.inl (some (ji_ x2))) (N, K, M, g)) : j_J G jm_Mo_write d B S 122 [jr_ a0, ji_ x1, ji_ x2, ji_ x3, u4, u5, u6] [] (N, K, M, g) Q :=
  j_iload_n d_Mo_write_122 rfl <| j_ireturn d_Mo_write_123 rfl k1
theorem s_Mo_type_0 {G : j_G} {d B S N : Nat} {K : Nat → Option (Nat × Nat)} {M : Nat → Int → Int} {g : Nat → Int → Option Nat} {Q : j_O → j_S → Prop} {a0 : Nat} {x3 : Int} {l1 : Int64} {u2 u4 : j_V} {q : Int → (Nat → Int → Int) → Prop} (hC : j_Ct G jm_Mo_within d 0 0 [ji_ x3, ji_ 1, ji_ 8] (N, K, M, g) (j_pI N K g q)) (k1 : ∀ z M', q z M' → j_J G jm_Mo_type (d + 1) B S 7 [jr_ a0, jl_ l1, u2, ji_ x3, u4] [ji_ z] (N, K, M', g) Q) : j_J G jm_Mo_type (d + 1) B S 0 [jr_ a0, jl_ l1, u2, ji_ x3, u4] [] (N, K, M, g) Q :=
  j_iload_n d_Mo_type_0 rfl <| j_iconst d_Mo_type_1 <| j_bipush d_Mo_type_2 (by decide) <| j_aSI (as := [ji_ x3, ji_ 1, ji_ 8]) (rest := []) d_Mo_type_4 c_Mo_88 rfl (Nat.le_of_ble_eq_true rfl) hC k1
theorem s_Mo_type_7 {G : j_G} {d B S N : Nat} {K : Nat → Option (Nat × Nat)} {M : Nat → Int → Int} {g : Nat → Int → Option Nat} {Q : j_O → j_S → Prop} {a0 : Nat} {x3 t0 : Int} {l1 : Int64} {u2 u4 : j_V} (r1 : -2147483648 ≤ t0 ∧ t0 ≤ 2147483647 := by omega) (k1 : t0 ≠ 0 → j_J G jm_Mo_type d B S 12 [jr_ a0, jl_ l1, u2, ji_ x3, u4] [] (N, K, M, g) Q) (k2 : t0 = 0 → Q (.inl (some (ji_ (-1)))) (N, K, M, g)) : j_J G jm_Mo_type d B S 7 [jr_ a0, jl_ l1, u2, ji_ x3, u4] [ji_ t0] (N, K, M, g) Q :=
  j_if_ne d_Mo_type_7 r1 k1 (fun h => j_iconst d_Mo_type_10 <| j_ireturn d_Mo_type_11 rfl <| k2 h)
theorem s_Mo_type_10 {G : j_G} {d B S N : Nat} {K : Nat → Option (Nat × Nat)} {M : Nat → Int → Int} {g : Nat → Int → Option Nat} {Q : j_O → j_S → Prop} {a0 : Nat} {x3 : Int} {l1 : Int64} {u2 u4 : j_V}  (k1 : Q (.inl (some (ji_ (-1)))) (N, K, M, g)) : j_J G jm_Mo_type d B S 10 [jr_ a0, jl_ l1, u2, ji_ x3, u4] [] (N, K, M, g) Q :=
  j_iconst d_Mo_type_10 <| j_ireturn d_Mo_type_11 rfl k1
theorem s_Mo_type_12 {G : j_G} {d B S N : Nat} {K : Nat → Option (Nat × Nat)} {M : Nat → Int → Int} {g : Nat → Int → Option Nat} {Q : j_O → j_S → Prop} {a0 : Nat} {x3 : Int} {l1 : Int64} {u2 u4 : j_V} (hk1 : K a0 = some (0, 8)) (r1 : -2147483648 ≤ ((M a0 24) + x3) ∧ ((M a0 24) + x3) ≤ 2147483647 := by omega) (k1 : ((M a0 24) + x3) ≤ 900 → j_J G jm_Mo_type d B S 32 [jr_ a0, jl_ l1, u2, ji_ x3, ji_ (x3 - 1)] [] (N, K, M, g) Q) (k2 : 900 < ((M a0 24) + x3) → Q (.inl (some (ji_ (-2)))) (N, K, M, g)) : j_J G jm_Mo_type d B S 12 [jr_ a0, jl_ l1, u2, ji_ x3, u4] [] (N, K, M, g) Q :=
  j_aload_n d_Mo_type_12 rfl <| j_getI d_Mo_type_13 f_Mo_151 hk1 <| j_iload_n d_Mo_type_16 rfl <| j_iadd d_Mo_type_17 <| j_sipush d_Mo_type_18 (by decide) <| j_icmp_le d_Mo_type_21 r1 (by decide) (fun h => j_iload_n d_Mo_type_27 rfl <| j_iconst d_Mo_type_28 <| j_isub d_Mo_type_29 <| j_istore d_Mo_type_30 rfl rfl <| k1 h) (fun h => j_bipush d_Mo_type_24 (by decide) <| j_ireturn d_Mo_type_26 rfl <| k2 h)
theorem s_Mo_type_24 {G : j_G} {d B S N : Nat} {K : Nat → Option (Nat × Nat)} {M : Nat → Int → Int} {g : Nat → Int → Option Nat} {Q : j_O → j_S → Prop} {a0 : Nat} {x3 : Int} {l1 : Int64} {u2 u4 : j_V}  (k1 : Q (.inl (some (ji_ (-2)))) (N, K, M, g)) : j_J G jm_Mo_type d B S 24 [jr_ a0, jl_ l1, u2, ji_ x3, u4] [] (N, K, M, g) Q :=
  j_bipush d_Mo_type_24 (by decide) <| j_ireturn d_Mo_type_26 rfl k1
theorem s_Mo_type_27 {G : j_G} {d B S N : Nat} {K : Nat → Option (Nat × Nat)} {M : Nat → Int → Int} {g : Nat → Int → Option Nat} {Q : j_O → j_S → Prop} {a0 : Nat} {x3 : Int} {l1 : Int64} {u2 u4 : j_V}  (k1 : j_J G jm_Mo_type d B S 32 [jr_ a0, jl_ l1, u2, ji_ x3, ji_ (x3 - 1)] [] (N, K, M, g) Q) : j_J G jm_Mo_type d B S 27 [jr_ a0, jl_ l1, u2, ji_ x3, u4] [] (N, K, M, g) Q :=
  j_iload_n d_Mo_type_27 rfl <| j_iconst d_Mo_type_28 <| j_isub d_Mo_type_29 <| j_istore d_Mo_type_30 rfl rfl <| k1
theorem s_Mo_type_32 {G : j_G} {d B S N : Nat} {K : Nat → Option (Nat × Nat)} {M : Nat → Int → Int} {g : Nat → Int → Option Nat} {Q : j_O → j_S → Prop} {a0 : Nat} {x3 x4 : Int} {l1 : Int64} {u2 : j_V} (r1 : -2147483648 ≤ x4 ∧ x4 ≤ 2147483647 := by omega) (k1 : x4 < 0 → j_J G jm_Mo_type d B S 59 [jr_ a0, jl_ l1, u2, ji_ x3, ji_ x4] [] (N, K, M, g) Q) (k2 : 0 ≤ x4 → j_J G jm_Mo_type d B S 37 [jr_ a0, jl_ l1, u2, ji_ x3, ji_ x4] [] (N, K, M, g) Q) : j_J G jm_Mo_type d B S 32 [jr_ a0, jl_ l1, u2, ji_ x3, ji_ x4] [] (N, K, M, g) Q :=
  j_iload d_Mo_type_32 rfl <| j_if_lt d_Mo_type_34 r1 k1 k2
theorem s_Mo_type_37 {G : j_G} {d B S N : Nat} {K : Nat → Option (Nat × Nat)} {M : Nat → Int → Int} {g : Nat → Int → Option Nat} {Q : j_O → j_S → Prop} {a0 : Nat} {x3 x4 : Int} {l1 : Int64} {u2 : j_V} {q : (Nat → Int → Int) → Prop} (hk1 : K a0 = some (0, 8)) (hC : j_Ct G jm_Mo_put d 0 0 [jr_ a0, ji_ (((l1 >>> ((Int32.ofInt (8 * x4)).toInt64 &&& 63)).toInt32.toInt) % 2 ^ 8)] (N, K, M, g) (j_pV N K g q)) (k1 : ∀ M', q M' → j_J G jm_Mo_type (d + 1) B S 53 [jr_ a0, jl_ l1, u2, ji_ x3, ji_ x4] [] (N, K, M', g) Q) : j_J G jm_Mo_type (d + 1) B S 37 [jr_ a0, jl_ l1, u2, ji_ x3, ji_ x4] [] (N, K, M, g) Q :=
  j_aload_n d_Mo_type_37 rfl <| j_lload_n d_Mo_type_38 rfl <| j_bipush d_Mo_type_39 (by decide) <| j_iload d_Mo_type_41 rfl <| j_imul d_Mo_type_43 <| j_lshr d_Mo_type_44 <| j_l2i d_Mo_type_45 <| j_sipush d_Mo_type_46 (by decide) <| j_iandM 8 d_Mo_type_49 (by decide) (by decide) <| j_aVV (as := [ji_ (((l1 >>> ((Int32.ofInt (8 * x4)).toInt64 &&& 63)).toInt32.toInt) % 2 ^ 8)]) (rest := []) d_Mo_type_50 c_Mo_154 hk1 rfl (Nat.le_of_ble_eq_true rfl) hC k1
theorem s_Mo_type_53 {G : j_G} {d B S N : Nat} {K : Nat → Option (Nat × Nat)} {M : Nat → Int → Int} {g : Nat → Int → Option Nat} {Q : j_O → j_S → Prop} {a0 : Nat} {x3 x4 : Int} {l1 : Int64} {u2 : j_V}  (k1 : j_J G jm_Mo_type d B S 32 [jr_ a0, jl_ l1, u2, ji_ x3, ji_ (x4 + (-1))] [] (N, K, M, g) Q) : j_J G jm_Mo_type d B S 53 [jr_ a0, jl_ l1, u2, ji_ x3, ji_ x4] [] (N, K, M, g) Q :=
  j_iinc d_Mo_type_53 rfl rfl rfl <| j_goto d_Mo_type_56 k1
theorem s_Mo_type_59 {G : j_G} {d B S N : Nat} {K : Nat → Option (Nat × Nat)} {M : Nat → Int → Int} {g : Nat → Int → Option Nat} {Q : j_O → j_S → Prop} {a0 : Nat} {x3 x4 : Int} {l1 : Int64} {u2 : j_V} (hk1 : K a0 = some (0, 8)) (k1 : Q (.inl (some (ji_ (M a0 24)))) (N, K, M, g)) : j_J G jm_Mo_type d B S 59 [jr_ a0, jl_ l1, u2, ji_ x3, ji_ x4] [] (N, K, M, g) Q :=
  j_aload_n d_Mo_type_59 rfl <| j_getI d_Mo_type_60 f_Mo_151 hk1 <| j_ireturn d_Mo_type_63 rfl k1
theorem s_Mo_wipe_0 {G : j_G} {d B S N : Nat} {K : Nat → Option (Nat × Nat)} {M : Nat → Int → Int} {g : Nat → Int → Option Nat} {Q : j_O → j_S → Prop} {a0 : Nat} {u1 : j_V} (hk1 : K a0 = some (0, 8)) (k1 : Q (.inl (some (ji_ (M a0 24)))) (N, K, (j_up M a0 24 0), g)) : j_J G jm_Mo_wipe d B S 0 [jr_ a0, u1] [] (N, K, M, g) Q :=
  j_aload_n d_Mo_wipe_0 rfl <| j_getI d_Mo_wipe_1 f_Mo_151 hk1 <| j_istore_n d_Mo_wipe_4 rfl rfl <| j_aload_n d_Mo_wipe_5 rfl <| j_iconst d_Mo_wipe_6 <| j_putI d_Mo_wipe_7 f_Mo_151 (⟨_, rfl, Or.inl rfl⟩) rfl hk1 <| j_iload_n d_Mo_wipe_10 rfl <| j_ireturn d_Mo_wipe_11 rfl k1
theorem s_Mo_character_0 {G : j_G} {d B S N : Nat} {K : Nat → Option (Nat × Nat)} {M : Nat → Int → Int} {g : Nat → Int → Option Nat} {Q : j_O → j_S → Prop} {a0 : Nat} {x1 : Int} {q : Int → (Nat → Int → Int) → Prop} (hk1 : K a0 = some (0, 8)) (hC : j_Ct G jm_Mo_within d 0 0 [ji_ x1, ji_ 0, ji_ ((M a0 24) - 1)] (N, K, M, g) (j_pI N K g q)) (k1 : ∀ z M', q z M' → j_J G jm_Mo_character (d + 1) B S 11 [jr_ a0, ji_ x1] [ji_ z] (N, K, M', g) Q) : j_J G jm_Mo_character (d + 1) B S 0 [jr_ a0, ji_ x1] [] (N, K, M, g) Q :=
  j_iload_n d_Mo_character_0 rfl <| j_iconst d_Mo_character_1 <| j_aload_n d_Mo_character_2 rfl <| j_getI d_Mo_character_3 f_Mo_151 hk1 <| j_iconst d_Mo_character_6 <| j_isub d_Mo_character_7 <| j_aSI (as := [ji_ x1, ji_ 0, ji_ ((M a0 24) - 1)]) (rest := []) d_Mo_character_8 c_Mo_88 rfl (Nat.le_of_ble_eq_true rfl) hC k1
theorem s_Mo_character_11 {G : j_G} {d B S N : Nat} {K : Nat → Option (Nat × Nat)} {M : Nat → Int → Int} {g : Nat → Int → Option Nat} {Q : j_O → j_S → Prop} {a0 : Nat} {x1 t0 : Int} (r1 : -2147483648 ≤ t0 ∧ t0 ≤ 2147483647 := by omega) (k1 : t0 = 0 → Q (.inl (some (ji_ (-3)))) (N, K, M, g)) (k2 : t0 ≠ 0 → j_J G jm_Mo_character d B S 14 [jr_ a0, ji_ x1] [] (N, K, M, g) Q) : j_J G jm_Mo_character d B S 11 [jr_ a0, ji_ x1] [ji_ t0] (N, K, M, g) Q :=
  j_if_eq d_Mo_character_11 r1 (fun h => j_bipush d_Mo_character_23 (by decide) <| j_ireturn d_Mo_character_25 rfl <| k1 h) k2
theorem s_Mo_character_14 {G : j_G} {d B S N : Nat} {K : Nat → Option (Nat × Nat)} {M : Nat → Int → Int} {g : Nat → Int → Option Nat} {Q : j_O → j_S → Prop} {a0 y1 n2 : Nat} {x1 : Int} (hk1 : K a0 = some (0, 8)) (hg2 : g a0 25 = some y1) (hk2 : K y1 = some (1, n2)) (r3 : 0 ≤ x1 := by omega) (r3' : x1 < (n2 : Int) := by omega) (k1 : Q (.inl (some (ji_ (M y1 x1)))) (N, K, M, g)) : j_J G jm_Mo_character d B S 14 [jr_ a0, ji_ x1] [] (N, K, M, g) Q :=
  j_aload_n d_Mo_character_14 rfl <| j_getR d_Mo_character_15 f_Mo_61 hk1 hg2 <| j_iload_n d_Mo_character_18 rfl <| j_iald d_Mo_character_19 hk2 r3 r3' <| j_goto d_Mo_character_20 (j_ireturn d_Mo_character_25 rfl <| k1)
theorem s_Mo_character_23 {G : j_G} {d B S N : Nat} {K : Nat → Option (Nat × Nat)} {M : Nat → Int → Int} {g : Nat → Int → Option Nat} {Q : j_O → j_S → Prop} {a0 : Nat} {x1 : Int}  (k1 : Q (.inl (some (ji_ (-3)))) (N, K, M, g)) : j_J G jm_Mo_character d B S 23 [jr_ a0, ji_ x1] [] (N, K, M, g) Q :=
  j_bipush d_Mo_character_23 (by decide) <| (j_ireturn d_Mo_character_25 rfl <| k1)
theorem s_Mo_character_25 {G : j_G} {d B S N : Nat} {K : Nat → Option (Nat × Nat)} {M : Nat → Int → Int} {g : Nat → Int → Option Nat} {Q : j_O → j_S → Prop} {a0 : Nat} {x1 t0 : Int}  (k1 : Q (.inl (some (ji_ t0))) (N, K, M, g)) : j_J G jm_Mo_character d B S 25 [jr_ a0, ji_ x1] [ji_ t0] (N, K, M, g) Q :=
  j_ireturn d_Mo_character_25 rfl k1
theorem s_Mo_look_0 {G : j_G} {d B S N : Nat} {K : Nat → Option (Nat × Nat)} {M : Nat → Int → Int} {g : Nat → Int → Option Nat} {Q : j_O → j_S → Prop} {a0 : Nat} (hk1 : K a0 = some (0, 8)) (r1 : -2147483648 ≤ (M a0 33) ∧ (M a0 33) ≤ 2147483647 := by omega) (r2 : -2147483648 ≤ (M a0 24) ∧ (M a0 24) ≤ 2147483647 := by omega) (k1 : (M a0 24) ≤ (M a0 33) → Q (.inl (some (ji_ (-1)))) (N, K, M, g)) (k2 : (M a0 33) < (M a0 24) → j_J G jm_Mo_look d B S 11 [jr_ a0] [] (N, K, M, g) Q) : j_J G jm_Mo_look d B S 0 [jr_ a0] [] (N, K, M, g) Q :=
  j_aload_n d_Mo_look_0 rfl <| j_getI d_Mo_look_1 f_Mo_174 hk1 <| j_aload_n d_Mo_look_4 rfl <| j_getI d_Mo_look_5 f_Mo_151 hk1 <| j_icmp_ge d_Mo_look_8 r1 r2 (fun h => j_iconst d_Mo_look_23 <| j_ireturn d_Mo_look_24 rfl <| k1 h) k2
theorem s_Mo_look_11 {G : j_G} {d B S N : Nat} {K : Nat → Option (Nat × Nat)} {M : Nat → Int → Int} {g : Nat → Int → Option Nat} {Q : j_O → j_S → Prop} {a0 y1 n2 : Nat} (hk1 : K a0 = some (0, 8)) (hg2 : g a0 25 = some y1) (hk2 : K y1 = some (1, n2)) (r3 : 0 ≤ (M a0 33) := by omega) (r3' : (M a0 33) < (n2 : Int) := by omega) (k1 : Q (.inl (some (ji_ (M y1 (M a0 33))))) (N, K, M, g)) : j_J G jm_Mo_look d B S 11 [jr_ a0] [] (N, K, M, g) Q :=
  j_aload_n d_Mo_look_11 rfl <| j_getR d_Mo_look_12 f_Mo_61 hk1 hg2 <| j_aload_n d_Mo_look_15 rfl <| j_getI d_Mo_look_16 f_Mo_174 hk1 <| j_iald d_Mo_look_19 hk2 r3 r3' <| j_goto d_Mo_look_20 (j_ireturn d_Mo_look_24 rfl <| k1)
theorem s_Mo_look_23 {G : j_G} {d B S N : Nat} {K : Nat → Option (Nat × Nat)} {M : Nat → Int → Int} {g : Nat → Int → Option Nat} {Q : j_O → j_S → Prop} {a0 : Nat}  (k1 : Q (.inl (some (ji_ (-1)))) (N, K, M, g)) : j_J G jm_Mo_look d B S 23 [jr_ a0] [] (N, K, M, g) Q :=
  j_iconst d_Mo_look_23 <| (j_ireturn d_Mo_look_24 rfl <| k1)
theorem s_Mo_look_24 {G : j_G} {d B S N : Nat} {K : Nat → Option (Nat × Nat)} {M : Nat → Int → Int} {g : Nat → Int → Option Nat} {Q : j_O → j_S → Prop} {a0 : Nat} {t0 : Int}  (k1 : Q (.inl (some (ji_ t0))) (N, K, M, g)) : j_J G jm_Mo_look d B S 24 [jr_ a0] [ji_ t0] (N, K, M, g) Q :=
  j_ireturn d_Mo_look_24 rfl k1
theorem s_Mo_want_0 {G : j_G} {d B S N : Nat} {K : Nat → Option (Nat × Nat)} {M : Nat → Int → Int} {g : Nat → Int → Option Nat} {Q : j_O → j_S → Prop} {a0 : Nat} {x1 : Int} (hk1 : K a0 = some (0, 8)) (r1 : -2147483648 ≤ (M a0 34) ∧ (M a0 34) ≤ 2147483647 := by omega) (k1 : (M a0 34) ≠ 0 → j_J G jm_Mo_want d B S 21 [jr_ a0, ji_ x1] [ji_ 1, jr_ a0] (N, K, M, g) Q) (k2 : (M a0 34) = 0 → j_J G jm_Mo_want d B S 8 [jr_ a0, ji_ x1] [jr_ a0] (N, K, M, g) Q) : j_J G jm_Mo_want d B S 0 [jr_ a0, ji_ x1] [] (N, K, M, g) Q :=
  j_aload_n d_Mo_want_0 rfl <| j_aload_n d_Mo_want_1 rfl <| j_getI d_Mo_want_2 f_Mo_177 hk1 <| j_if_ne d_Mo_want_5 r1 (fun h => j_iconst d_Mo_want_16 <| j_goto d_Mo_want_17 <| k1 h) k2
theorem s_Mo_want_8 {G : j_G} {d B S N : Nat} {K : Nat → Option (Nat × Nat)} {M : Nat → Int → Int} {g : Nat → Int → Option Nat} {Q : j_O → j_S → Prop} {a0 b0 : Nat} {x1 : Int} {q : Int → (Nat → Int → Int) → Prop} (hk1 : K a0 = some (0, 8)) (hC : j_Ct G jm_Mo_look d 0 0 [jr_ a0] (N, K, M, g) (j_pI N K g q)) (k1 : ∀ z M', q z M' → j_J G jm_Mo_want (d + 1) B S 12 [jr_ a0, ji_ x1] [ji_ z, jr_ b0] (N, K, M', g) Q) : j_J G jm_Mo_want (d + 1) B S 8 [jr_ a0, ji_ x1] [jr_ b0] (N, K, M, g) Q :=
  j_aload_n d_Mo_want_8 rfl <| j_aVI (as := []) (rest := [jr_ b0]) d_Mo_want_9 c_Mo_180 hk1 rfl (Nat.le_of_ble_eq_true rfl) hC k1
theorem s_Mo_want_12 {G : j_G} {d B S N : Nat} {K : Nat → Option (Nat × Nat)} {M : Nat → Int → Int} {g : Nat → Int → Option Nat} {Q : j_O → j_S → Prop} {a0 b0 : Nat} {x1 t1 : Int} (r1 : -2147483648 ≤ t1 ∧ t1 ≤ 2147483647 := by omega) (r2 : -2147483648 ≤ x1 ∧ x1 ≤ 2147483647 := by omega) (k1 : t1 = x1 → j_J G jm_Mo_want d B S 21 [jr_ a0, ji_ x1] [ji_ 0, jr_ b0] (N, K, M, g) Q) (k2 : t1 ≠ x1 → j_J G jm_Mo_want d B S 21 [jr_ a0, ji_ x1] [ji_ 1, jr_ b0] (N, K, M, g) Q) : j_J G jm_Mo_want d B S 12 [jr_ a0, ji_ x1] [ji_ t1, jr_ b0] (N, K, M, g) Q :=
  j_iload_n d_Mo_want_12 rfl <| j_icmp_eq d_Mo_want_13 r1 r2 (fun h => j_iconst d_Mo_want_20 <| k1 h) (fun h => j_iconst d_Mo_want_16 <| j_goto d_Mo_want_17 <| k2 h)
theorem s_Mo_want_16 {G : j_G} {d B S N : Nat} {K : Nat → Option (Nat × Nat)} {M : Nat → Int → Int} {g : Nat → Int → Option Nat} {Q : j_O → j_S → Prop} {a0 b0 : Nat} {x1 : Int}  (k1 : j_J G jm_Mo_want d B S 21 [jr_ a0, ji_ x1] [ji_ 1, jr_ b0] (N, K, M, g) Q) : j_J G jm_Mo_want d B S 16 [jr_ a0, ji_ x1] [jr_ b0] (N, K, M, g) Q :=
  j_iconst d_Mo_want_16 <| j_goto d_Mo_want_17 k1
theorem s_Mo_want_20 {G : j_G} {d B S N : Nat} {K : Nat → Option (Nat × Nat)} {M : Nat → Int → Int} {g : Nat → Int → Option Nat} {Q : j_O → j_S → Prop} {a0 b0 : Nat} {x1 : Int}  (k1 : j_J G jm_Mo_want d B S 21 [jr_ a0, ji_ x1] [ji_ 0, jr_ b0] (N, K, M, g) Q) : j_J G jm_Mo_want d B S 20 [jr_ a0, ji_ x1] [jr_ b0] (N, K, M, g) Q :=
  j_iconst d_Mo_want_20 <| k1
theorem s_Mo_want_21 {G : j_G} {d B S N : Nat} {K : Nat → Option (Nat × Nat)} {M : Nat → Int → Int} {g : Nat → Int → Option Nat} {Q : j_O → j_S → Prop} {a0 b0 : Nat} {x1 t1 : Int} (hk1 : K b0 = some (0, 8)) (hz1 : t1 = 0 ∨ t1 = 1) (hk2 : K a0 = some (0, 8)) (r2 : -2147483648 ≤ ((j_up M b0 34 t1) a0 34) ∧ ((j_up M b0 34 t1) a0 34) ≤ 2147483647 := by omega) (k1 : ((j_up M b0 34 t1) a0 34) = 0 → j_J G jm_Mo_want d B S 39 [jr_ a0, ji_ x1] [jr_ a0] (N, K, (j_up M b0 34 t1), g) Q) (k2 : ((j_up M b0 34 t1) a0 34) ≠ 0 → j_J G jm_Mo_want d B S 32 [jr_ a0, ji_ x1] [jr_ a0] (N, K, (j_up M b0 34 t1), g) Q) : j_J G jm_Mo_want d B S 21 [jr_ a0, ji_ x1] [ji_ t1, jr_ b0] (N, K, M, g) Q :=
  j_putZ' d_Mo_want_21 f_Mo_177 (⟨_, rfl, Or.inl rfl⟩) rfl hk1 hz1 <| j_aload_n d_Mo_want_24 rfl <| j_aload_n d_Mo_want_25 rfl <| j_getI d_Mo_want_26 f_Mo_177 hk2 <| j_if_eq d_Mo_want_29 r2 k1 k2
theorem s_Mo_want_32 {G : j_G} {d B S N : Nat} {K : Nat → Option (Nat × Nat)} {M : Nat → Int → Int} {g : Nat → Int → Option Nat} {Q : j_O → j_S → Prop} {a0 b0 : Nat} {x1 : Int} (hk1 : K a0 = some (0, 8)) (k1 : j_J G jm_Mo_want d B S 45 [jr_ a0, ji_ x1] [ji_ (M a0 33), jr_ b0] (N, K, M, g) Q) : j_J G jm_Mo_want d B S 32 [jr_ a0, ji_ x1] [jr_ b0] (N, K, M, g) Q :=
  j_aload_n d_Mo_want_32 rfl <| j_getI d_Mo_want_33 f_Mo_174 hk1 <| j_goto d_Mo_want_36 k1
theorem s_Mo_want_39 {G : j_G} {d B S N : Nat} {K : Nat → Option (Nat × Nat)} {M : Nat → Int → Int} {g : Nat → Int → Option Nat} {Q : j_O → j_S → Prop} {a0 b0 : Nat} {x1 : Int} (hk1 : K a0 = some (0, 8)) (k1 : j_J G jm_Mo_want d B S 45 [jr_ a0, ji_ x1] [ji_ ((M a0 33) + 1), jr_ b0] (N, K, M, g) Q) : j_J G jm_Mo_want d B S 39 [jr_ a0, ji_ x1] [jr_ b0] (N, K, M, g) Q :=
  j_aload_n d_Mo_want_39 rfl <| j_getI d_Mo_want_40 f_Mo_174 hk1 <| j_iconst d_Mo_want_43 <| j_iadd d_Mo_want_44 <| k1
theorem s_Mo_want_45 {G : j_G} {d B S N : Nat} {K : Nat → Option (Nat × Nat)} {M : Nat → Int → Int} {g : Nat → Int → Option Nat} {Q : j_O → j_S → Prop} {a0 b0 : Nat} {x1 t1 : Int} (hk1 : K b0 = some (0, 8)) (k1 : Q (.inl none) (N, K, (j_up M b0 33 t1), g)) : j_J G jm_Mo_want d B S 45 [jr_ a0, ji_ x1] [ji_ t1, jr_ b0] (N, K, M, g) Q :=
  j_putI d_Mo_want_45 f_Mo_174 (⟨_, rfl, Or.inl rfl⟩) rfl hk1 <| j_vreturn d_Mo_want_48 rfl k1
theorem s_Mo_number_0 {G : j_G} {d B S N : Nat} {K : Nat → Option (Nat × Nat)} {M : Nat → Int → Int} {g : Nat → Int → Option Nat} {Q : j_O → j_S → Prop} {a0 : Nat} {u1 : j_V} (hk1 : K a0 = some (0, 8)) (r1 : -2147483648 ≤ (M a0 34) ∧ (M a0 34) ≤ 2147483647 := by omega) (k1 : (M a0 34) ≠ 0 → j_J G jm_Mo_number d B S 21 [jr_ a0, u1] [] (N, K, M, g) Q) (k2 : (M a0 34) = 0 → j_J G jm_Mo_number d B S 7 [jr_ a0, u1] [] (N, K, M, g) Q) : j_J G jm_Mo_number d B S 0 [jr_ a0, u1] [] (N, K, M, g) Q :=
  j_aload_n d_Mo_number_0 rfl <| j_getI d_Mo_number_1 f_Mo_177 hk1 <| j_if_ne d_Mo_number_4 r1 k1 k2
theorem s_Mo_number_7 {G : j_G} {d B S N : Nat} {K : Nat → Option (Nat × Nat)} {M : Nat → Int → Int} {g : Nat → Int → Option Nat} {Q : j_O → j_S → Prop} {a0 : Nat} {u1 : j_V} {q : Int → (Nat → Int → Int) → Prop} (hk1 : K a0 = some (0, 8)) (hC : j_Ct G jm_Mo_look d 0 0 [jr_ a0] (N, K, M, g) (j_pI N K g q)) (k1 : ∀ z M', q z M' → j_J G jm_Mo_number (d + 1) B S 11 [jr_ a0, u1] [ji_ z] (N, K, M', g) Q) : j_J G jm_Mo_number (d + 1) B S 7 [jr_ a0, u1] [] (N, K, M, g) Q :=
  j_aload_n d_Mo_number_7 rfl <| j_aVI (as := []) (rest := []) d_Mo_number_8 c_Mo_180 hk1 rfl (Nat.le_of_ble_eq_true rfl) hC k1
theorem s_Mo_number_11 {G : j_G} {d B S N : Nat} {K : Nat → Option (Nat × Nat)} {M : Nat → Int → Int} {g : Nat → Int → Option Nat} {Q : j_O → j_S → Prop} {a0 : Nat} {t0 : Int} {u1 : j_V} {q : Int → (Nat → Int → Int) → Prop} (hC : j_Ct G jm_Mo_within d 0 0 [ji_ t0, ji_ 48, ji_ 57] (N, K, M, g) (j_pI N K g q)) (k1 : ∀ z M', q z M' → j_J G jm_Mo_number (d + 1) B S 18 [jr_ a0, u1] [ji_ z] (N, K, M', g) Q) : j_J G jm_Mo_number (d + 1) B S 11 [jr_ a0, u1] [ji_ t0] (N, K, M, g) Q :=
  j_bipush d_Mo_number_11 (by decide) <| j_bipush d_Mo_number_13 (by decide) <| j_aSI (as := [ji_ t0, ji_ 48, ji_ 57]) (rest := []) d_Mo_number_15 c_Mo_88 rfl (Nat.le_of_ble_eq_true rfl) hC k1
theorem s_Mo_number_18 {G : j_G} {d B S N : Nat} {K : Nat → Option (Nat × Nat)} {M : Nat → Int → Int} {g : Nat → Int → Option Nat} {Q : j_O → j_S → Prop} {a0 : Nat} {t0 : Int} {u1 : j_V} (r1 : -2147483648 ≤ t0 ∧ t0 ≤ 2147483647 := by omega) (k1 : t0 ≠ 0 → j_J G jm_Mo_number d B S 28 [jr_ a0, u1] [] (N, K, M, g) Q) (k2 : t0 = 0 → j_J G jm_Mo_number d B S 21 [jr_ a0, u1] [] (N, K, M, g) Q) : j_J G jm_Mo_number d B S 18 [jr_ a0, u1] [ji_ t0] (N, K, M, g) Q :=
  j_if_ne d_Mo_number_18 r1 k1 k2
theorem s_Mo_number_21 {G : j_G} {d B S N : Nat} {K : Nat → Option (Nat × Nat)} {M : Nat → Int → Int} {g : Nat → Int → Option Nat} {Q : j_O → j_S → Prop} {a0 : Nat} {u1 : j_V} (hk1 : K a0 = some (0, 8)) (k1 : Q (.inl (some (ji_ 0))) (N, K, (j_up M a0 34 1), g)) : j_J G jm_Mo_number d B S 21 [jr_ a0, u1] [] (N, K, M, g) Q :=
  j_aload_n d_Mo_number_21 rfl <| j_iconst d_Mo_number_22 <| j_putZ' d_Mo_number_23 f_Mo_177 (⟨_, rfl, Or.inl rfl⟩) rfl hk1 (Or.inr rfl) <| j_iconst d_Mo_number_26 <| j_ireturn d_Mo_number_27 rfl k1
theorem s_Mo_number_28 {G : j_G} {d B S N : Nat} {K : Nat → Option (Nat × Nat)} {M : Nat → Int → Int} {g : Nat → Int → Option Nat} {Q : j_O → j_S → Prop} {a0 : Nat} {u1 : j_V} {q : Int → (Nat → Int → Int) → Prop} (hk1 : K a0 = some (0, 8)) (hC : j_Ct G jm_Mo_look d 0 0 [jr_ a0] (N, K, M, g) (j_pI N K g q)) (k1 : ∀ z M', q z M' → j_J G jm_Mo_number (d + 1) B S 32 [jr_ a0, u1] [ji_ z] (N, K, M', g) Q) : j_J G jm_Mo_number (d + 1) B S 28 [jr_ a0, u1] [] (N, K, M, g) Q :=
  j_aload_n d_Mo_number_28 rfl <| j_aVI (as := []) (rest := []) d_Mo_number_29 c_Mo_180 hk1 rfl (Nat.le_of_ble_eq_true rfl) hC k1
theorem s_Mo_number_32 {G : j_G} {d B S N : Nat} {K : Nat → Option (Nat × Nat)} {M : Nat → Int → Int} {g : Nat → Int → Option Nat} {Q : j_O → j_S → Prop} {a0 : Nat} {t0 : Int} {u1 : j_V} (hk1 : K a0 = some (0, 8)) (r1 : -2147483648 ≤ (t0 - 48) ∧ (t0 - 48) ≤ 2147483647 := by omega) (k1 : (t0 - 48) ≤ 0 → Q (.inl (some (ji_ (t0 - 48)))) (N, K, (j_up M a0 33 ((M a0 33) + 1)), g)) (k2 : 0 < (t0 - 48) → j_J G jm_Mo_number d B S 50 [jr_ a0, ji_ (t0 - 48)] [] (N, K, (j_up M a0 33 ((M a0 33) + 1)), g) Q) : j_J G jm_Mo_number d B S 32 [jr_ a0, u1] [ji_ t0] (N, K, M, g) Q :=
  j_bipush d_Mo_number_32 (by decide) <| j_isub d_Mo_number_34 <| j_istore_n d_Mo_number_35 rfl rfl <| j_aload_n d_Mo_number_36 rfl <| j_dupR d_Mo_number_37 <| j_getI d_Mo_number_38 f_Mo_174 hk1 <| j_iconst d_Mo_number_41 <| j_iadd d_Mo_number_42 <| j_putI d_Mo_number_43 f_Mo_174 (⟨_, rfl, Or.inl rfl⟩) rfl hk1 <| j_iload_n d_Mo_number_46 rfl <| j_if_le d_Mo_number_47 r1 (fun h => j_iload_n d_Mo_number_87 rfl <| j_ireturn d_Mo_number_88 rfl <| k1 h) k2
theorem s_Mo_number_50 {G : j_G} {d B S N : Nat} {K : Nat → Option (Nat × Nat)} {M : Nat → Int → Int} {g : Nat → Int → Option Nat} {Q : j_O → j_S → Prop} {a0 : Nat} {x1 : Int} {q : Int → (Nat → Int → Int) → Prop} (hk1 : K a0 = some (0, 8)) (hC : j_Ct G jm_Mo_look d 0 0 [jr_ a0] (N, K, M, g) (j_pI N K g q)) (k1 : ∀ z M', q z M' → j_J G jm_Mo_number (d + 1) B S 54 [jr_ a0, ji_ x1] [ji_ z] (N, K, M', g) Q) : j_J G jm_Mo_number (d + 1) B S 50 [jr_ a0, ji_ x1] [] (N, K, M, g) Q :=
  j_aload_n d_Mo_number_50 rfl <| j_aVI (as := []) (rest := []) d_Mo_number_51 c_Mo_180 hk1 rfl (Nat.le_of_ble_eq_true rfl) hC k1
theorem s_Mo_number_54 {G : j_G} {d B S N : Nat} {K : Nat → Option (Nat × Nat)} {M : Nat → Int → Int} {g : Nat → Int → Option Nat} {Q : j_O → j_S → Prop} {a0 : Nat} {x1 t0 : Int} {q : Int → (Nat → Int → Int) → Prop} (hC : j_Ct G jm_Mo_within d 0 0 [ji_ t0, ji_ 48, ji_ 57] (N, K, M, g) (j_pI N K g q)) (k1 : ∀ z M', q z M' → j_J G jm_Mo_number (d + 1) B S 61 [jr_ a0, ji_ x1] [ji_ z] (N, K, M', g) Q) : j_J G jm_Mo_number (d + 1) B S 54 [jr_ a0, ji_ x1] [ji_ t0] (N, K, M, g) Q :=
  j_bipush d_Mo_number_54 (by decide) <| j_bipush d_Mo_number_56 (by decide) <| j_aSI (as := [ji_ t0, ji_ 48, ji_ 57]) (rest := []) d_Mo_number_58 c_Mo_88 rfl (Nat.le_of_ble_eq_true rfl) hC k1
theorem s_Mo_number_61 {G : j_G} {d B S N : Nat} {K : Nat → Option (Nat × Nat)} {M : Nat → Int → Int} {g : Nat → Int → Option Nat} {Q : j_O → j_S → Prop} {a0 : Nat} {x1 t0 : Int} (r1 : -2147483648 ≤ t0 ∧ t0 ≤ 2147483647 := by omega) (k1 : t0 = 0 → Q (.inl (some (ji_ x1))) (N, K, M, g)) (k2 : t0 ≠ 0 → j_J G jm_Mo_number d B S 64 [jr_ a0, ji_ x1] [] (N, K, M, g) Q) : j_J G jm_Mo_number d B S 61 [jr_ a0, ji_ x1] [ji_ t0] (N, K, M, g) Q :=
  j_if_eq d_Mo_number_61 r1 (fun h => j_iload_n d_Mo_number_87 rfl <| j_ireturn d_Mo_number_88 rfl <| k1 h) k2
theorem s_Mo_number_64 {G : j_G} {d B S N : Nat} {K : Nat → Option (Nat × Nat)} {M : Nat → Int → Int} {g : Nat → Int → Option Nat} {Q : j_O → j_S → Prop} {a0 : Nat} {x1 : Int} {q : Int → (Nat → Int → Int) → Prop} (hk1 : K a0 = some (0, 8)) (hC : j_Ct G jm_Mo_look d 0 0 [jr_ a0] (N, K, M, g) (j_pI N K g q)) (k1 : ∀ z M', q z M' → j_J G jm_Mo_number (d + 1) B S 72 [jr_ a0, ji_ x1] [ji_ z, ji_ (10 * x1)] (N, K, M', g) Q) : j_J G jm_Mo_number (d + 1) B S 64 [jr_ a0, ji_ x1] [] (N, K, M, g) Q :=
  j_bipush d_Mo_number_64 (by decide) <| j_iload_n d_Mo_number_66 rfl <| j_imul d_Mo_number_67 <| j_aload_n d_Mo_number_68 rfl <| j_aVI (as := []) (rest := [ji_ (10 * x1)]) d_Mo_number_69 c_Mo_180 hk1 rfl (Nat.le_of_ble_eq_true rfl) hC k1
theorem s_Mo_number_72 {G : j_G} {d B S N : Nat} {K : Nat → Option (Nat × Nat)} {M : Nat → Int → Int} {g : Nat → Int → Option Nat} {Q : j_O → j_S → Prop} {a0 : Nat} {x1 t0 t1 : Int} (hk1 : K a0 = some (0, 8)) (k1 : Q (.inl (some (ji_ ((t0 + t1) - 48)))) (N, K, (j_up M a0 33 ((M a0 33) + 1)), g)) : j_J G jm_Mo_number d B S 72 [jr_ a0, ji_ x1] [ji_ t1, ji_ t0] (N, K, M, g) Q :=
  j_iadd d_Mo_number_72 <| j_bipush d_Mo_number_73 (by decide) <| j_isub d_Mo_number_75 <| j_istore_n d_Mo_number_76 rfl rfl <| j_aload_n d_Mo_number_77 rfl <| j_dupR d_Mo_number_78 <| j_getI d_Mo_number_79 f_Mo_174 hk1 <| j_iconst d_Mo_number_82 <| j_iadd d_Mo_number_83 <| j_putI d_Mo_number_84 f_Mo_174 (⟨_, rfl, Or.inl rfl⟩) rfl hk1 <| (j_iload_n d_Mo_number_87 rfl <| j_ireturn d_Mo_number_88 rfl <| k1)
theorem s_Mo_number_87 {G : j_G} {d B S N : Nat} {K : Nat → Option (Nat × Nat)} {M : Nat → Int → Int} {g : Nat → Int → Option Nat} {Q : j_O → j_S → Prop} {a0 : Nat} {x1 : Int}  (k1 : Q (.inl (some (ji_ x1))) (N, K, M, g)) : j_J G jm_Mo_number d B S 87 [jr_ a0, ji_ x1] [] (N, K, M, g) Q :=
  j_iload_n d_Mo_number_87 rfl <| j_ireturn d_Mo_number_88 rfl k1
theorem s_Mo_readHunk_0 {G : j_G} {d B S N : Nat} {K : Nat → Option (Nat × Nat)} {M : Nat → Int → Int} {g : Nat → Int → Option Nat} {Q : j_O → j_S → Prop} {a0 : Nat} {u1 u2 u3 u4 u5 : j_V} {q : (Nat → Int → Int) → Prop} (hk1 : K a0 = some (0, 8)) (hC : j_Ct G jm_Mo_want d 0 0 [jr_ a0, ji_ 64] (N, K, M, g) (j_pV N K g q)) (k1 : ∀ M', q M' → j_J G jm_Mo_readHunk (d + 1) B S 6 [jr_ a0, u1, u2, u3, u4, u5] [] (N, K, M', g) Q) : j_J G jm_Mo_readHunk (d + 1) B S 0 [jr_ a0, u1, u2, u3, u4, u5] [] (N, K, M, g) Q :=
  j_aload_n d_Mo_readHunk_0 rfl <| j_bipush d_Mo_readHunk_1 (by decide) <| j_aVV (as := [ji_ 64]) (rest := []) d_Mo_readHunk_3 c_Mo_184 hk1 rfl (Nat.le_of_ble_eq_true rfl) hC k1
theorem s_Mo_readHunk_6 {G : j_G} {d B S N : Nat} {K : Nat → Option (Nat × Nat)} {M : Nat → Int → Int} {g : Nat → Int → Option Nat} {Q : j_O → j_S → Prop} {a0 y1 : Nat} {u1 u2 u3 u4 u5 : j_V} {q : Int → (Nat → Int → Int) → Prop} (hk1 : K a0 = some (0, 8)) (hg2 : g a0 27 = some y1) (hC : j_Ct G jm_Mo_number d 0 0 [jr_ a0] (N, K, M, g) (j_pI N K g q)) (k1 : ∀ z M', q z M' → j_J G jm_Mo_readHunk (d + 1) B S 18 [jr_ a0, u1, u2, u3, u4, u5] [ji_ z, ji_ (M a0 26), jr_ y1] (N, K, M', g) Q) : j_J G jm_Mo_readHunk (d + 1) B S 6 [jr_ a0, u1, u2, u3, u4, u5] [] (N, K, M, g) Q :=
  j_aload_n d_Mo_readHunk_6 rfl <| j_getR d_Mo_readHunk_7 f_Mo_64 hk1 hg2 <| j_aload_n d_Mo_readHunk_10 rfl <| j_getI d_Mo_readHunk_11 f_Mo_187 hk1 <| j_aload_n d_Mo_readHunk_14 rfl <| j_aVI (as := []) (rest := [ji_ (M a0 26), jr_ y1]) d_Mo_readHunk_15 c_Mo_190 hk1 rfl (Nat.le_of_ble_eq_true rfl) hC k1
theorem s_Mo_readHunk_18 {G : j_G} {d B S N : Nat} {K : Nat → Option (Nat × Nat)} {M : Nat → Int → Int} {g : Nat → Int → Option Nat} {Q : j_O → j_S → Prop} {a0 b0 n1 : Nat} {t1 t2 : Int} {u1 u2 u3 u4 u5 : j_V} {q : (Nat → Int → Int) → Prop} (hk1 : K b0 = some (1, n1)) (r1 : 0 ≤ t1 := by omega) (r1' : t1 < (n1 : Int) := by omega) (hk2 : K a0 = some (0, 8)) (hC : j_Ct G jm_Mo_want d 0 0 [jr_ a0, ji_ 44] (N, K, (j_up M b0 t1 t2), g) (j_pV N K g q)) (k1 : ∀ M', q M' → j_J G jm_Mo_readHunk (d + 1) B S 25 [jr_ a0, u1, u2, u3, u4, u5] [] (N, K, M', g) Q) : j_J G jm_Mo_readHunk (d + 1) B S 18 [jr_ a0, u1, u2, u3, u4, u5] [ji_ t2, ji_ t1, jr_ b0] (N, K, M, g) Q :=
  j_iast d_Mo_readHunk_18 hk1 r1 r1' <| j_aload_n d_Mo_readHunk_19 rfl <| j_bipush d_Mo_readHunk_20 (by decide) <| j_aVV (as := [ji_ 44]) (rest := []) d_Mo_readHunk_22 c_Mo_184 hk2 rfl (Nat.le_of_ble_eq_true rfl) hC k1
theorem s_Mo_readHunk_25 {G : j_G} {d B S N : Nat} {K : Nat → Option (Nat × Nat)} {M : Nat → Int → Int} {g : Nat → Int → Option Nat} {Q : j_O → j_S → Prop} {a0 : Nat} {u1 u2 u3 u4 u5 : j_V} {q : Int → (Nat → Int → Int) → Prop} (hk1 : K a0 = some (0, 8)) (hC : j_Ct G jm_Mo_number d 0 0 [jr_ a0] (N, K, M, g) (j_pI N K g q)) (k1 : ∀ z M', q z M' → j_J G jm_Mo_readHunk (d + 1) B S 29 [jr_ a0, u1, u2, u3, u4, u5] [ji_ z] (N, K, M', g) Q) : j_J G jm_Mo_readHunk (d + 1) B S 25 [jr_ a0, u1, u2, u3, u4, u5] [] (N, K, M, g) Q :=
  j_aload_n d_Mo_readHunk_25 rfl <| j_aVI (as := []) (rest := []) d_Mo_readHunk_26 c_Mo_190 hk1 rfl (Nat.le_of_ble_eq_true rfl) hC k1
theorem s_Mo_readHunk_29 {G : j_G} {d B S N : Nat} {K : Nat → Option (Nat × Nat)} {M : Nat → Int → Int} {g : Nat → Int → Option Nat} {Q : j_O → j_S → Prop} {a0 : Nat} {t0 : Int} {u1 u2 u3 u4 u5 : j_V} {q : (Nat → Int → Int) → Prop} (hk1 : K a0 = some (0, 8)) (hC : j_Ct G jm_Mo_want d 0 0 [jr_ a0, ji_ 32] (N, K, M, g) (j_pV N K g q)) (k1 : ∀ M', q M' → j_J G jm_Mo_readHunk (d + 1) B S 36 [jr_ a0, ji_ t0, u2, u3, u4, u5] [] (N, K, M', g) Q) : j_J G jm_Mo_readHunk (d + 1) B S 29 [jr_ a0, u1, u2, u3, u4, u5] [ji_ t0] (N, K, M, g) Q :=
  j_istore_n d_Mo_readHunk_29 rfl rfl <| j_aload_n d_Mo_readHunk_30 rfl <| j_bipush d_Mo_readHunk_31 (by decide) <| j_aVV (as := [ji_ 32]) (rest := []) d_Mo_readHunk_33 c_Mo_184 hk1 rfl (Nat.le_of_ble_eq_true rfl) hC k1
theorem s_Mo_readHunk_36 {G : j_G} {d B S N : Nat} {K : Nat → Option (Nat × Nat)} {M : Nat → Int → Int} {g : Nat → Int → Option Nat} {Q : j_O → j_S → Prop} {a0 : Nat} {x1 : Int} {u2 u3 u4 u5 : j_V} {q : Int → (Nat → Int → Int) → Prop} (hk1 : K a0 = some (0, 8)) (hC : j_Ct G jm_Mo_number d 0 0 [jr_ a0] (N, K, M, g) (j_pI N K g q)) (k1 : ∀ z M', q z M' → j_J G jm_Mo_readHunk (d + 1) B S 40 [jr_ a0, ji_ x1, u2, u3, u4, u5] [ji_ z] (N, K, M', g) Q) : j_J G jm_Mo_readHunk (d + 1) B S 36 [jr_ a0, ji_ x1, u2, u3, u4, u5] [] (N, K, M, g) Q :=
  j_aload_n d_Mo_readHunk_36 rfl <| j_aVI (as := []) (rest := []) d_Mo_readHunk_37 c_Mo_190 hk1 rfl (Nat.le_of_ble_eq_true rfl) hC k1
theorem s_Mo_readHunk_40 {G : j_G} {d B S N : Nat} {K : Nat → Option (Nat × Nat)} {M : Nat → Int → Int} {g : Nat → Int → Option Nat} {Q : j_O → j_S → Prop} {a0 : Nat} {x1 t0 : Int} {u2 u3 u4 u5 : j_V} {q : (Nat → Int → Int) → Prop} (hk1 : K a0 = some (0, 8)) (hC : j_Ct G jm_Mo_want d 0 0 [jr_ a0, ji_ 44] (N, K, M, g) (j_pV N K g q)) (k1 : ∀ M', q M' → j_J G jm_Mo_readHunk (d + 1) B S 47 [jr_ a0, ji_ x1, u2, u3, u4, u5] [] (N, K, M', g) Q) : j_J G jm_Mo_readHunk (d + 1) B S 40 [jr_ a0, ji_ x1, u2, u3, u4, u5] [ji_ t0] (N, K, M, g) Q :=
  j_popI d_Mo_readHunk_40 <| j_aload_n d_Mo_readHunk_41 rfl <| j_bipush d_Mo_readHunk_42 (by decide) <| j_aVV (as := [ji_ 44]) (rest := []) d_Mo_readHunk_44 c_Mo_184 hk1 rfl (Nat.le_of_ble_eq_true rfl) hC k1
theorem s_Mo_readHunk_47 {G : j_G} {d B S N : Nat} {K : Nat → Option (Nat × Nat)} {M : Nat → Int → Int} {g : Nat → Int → Option Nat} {Q : j_O → j_S → Prop} {a0 : Nat} {x1 : Int} {u2 u3 u4 u5 : j_V} {q : Int → (Nat → Int → Int) → Prop} (hk1 : K a0 = some (0, 8)) (hC : j_Ct G jm_Mo_number d 0 0 [jr_ a0] (N, K, M, g) (j_pI N K g q)) (k1 : ∀ z M', q z M' → j_J G jm_Mo_readHunk (d + 1) B S 51 [jr_ a0, ji_ x1, u2, u3, u4, u5] [ji_ z] (N, K, M', g) Q) : j_J G jm_Mo_readHunk (d + 1) B S 47 [jr_ a0, ji_ x1, u2, u3, u4, u5] [] (N, K, M, g) Q :=
  j_aload_n d_Mo_readHunk_47 rfl <| j_aVI (as := []) (rest := []) d_Mo_readHunk_48 c_Mo_190 hk1 rfl (Nat.le_of_ble_eq_true rfl) hC k1
theorem s_Mo_readHunk_51 {G : j_G} {d B S N : Nat} {K : Nat → Option (Nat × Nat)} {M : Nat → Int → Int} {g : Nat → Int → Option Nat} {Q : j_O → j_S → Prop} {a0 : Nat} {x1 t0 : Int} {u2 u3 u4 u5 : j_V} (hk1 : K a0 = some (0, 8)) (r1 : -2147483648 ≤ (M a0 34) ∧ (M a0 34) ≤ 2147483647 := by omega) (k1 : (M a0 34) ≠ 0 → j_J G jm_Mo_readHunk d B S 73 [jr_ a0, ji_ x1, ji_ t0, u3, u4, u5] [ji_ 1, jr_ a0] (N, K, M, g) Q) (k2 : (M a0 34) = 0 → j_J G jm_Mo_readHunk d B S 60 [jr_ a0, ji_ x1, ji_ t0, u3, u4, u5] [jr_ a0] (N, K, M, g) Q) : j_J G jm_Mo_readHunk d B S 51 [jr_ a0, ji_ x1, u2, u3, u4, u5] [ji_ t0] (N, K, M, g) Q :=
  j_istore_n d_Mo_readHunk_51 rfl rfl <| j_aload_n d_Mo_readHunk_52 rfl <| j_aload_n d_Mo_readHunk_53 rfl <| j_getI d_Mo_readHunk_54 f_Mo_177 hk1 <| j_if_ne d_Mo_readHunk_57 r1 (fun h => j_iconst d_Mo_readHunk_68 <| j_goto d_Mo_readHunk_69 <| k1 h) k2
theorem s_Mo_readHunk_60 {G : j_G} {d B S N : Nat} {K : Nat → Option (Nat × Nat)} {M : Nat → Int → Int} {g : Nat → Int → Option Nat} {Q : j_O → j_S → Prop} {a0 b0 : Nat} {x1 x2 : Int} {u3 u4 u5 : j_V} (r1 : -2147483648 ≤ x1 ∧ x1 ≤ 2147483647 := by omega) (k1 : x1 ≠ 0 → j_J G jm_Mo_readHunk d B S 73 [jr_ a0, ji_ x1, ji_ x2, u3, u4, u5] [ji_ 0, jr_ b0] (N, K, M, g) Q) (k2 : x1 = 0 → j_J G jm_Mo_readHunk d B S 64 [jr_ a0, ji_ x1, ji_ x2, u3, u4, u5] [jr_ b0] (N, K, M, g) Q) : j_J G jm_Mo_readHunk d B S 60 [jr_ a0, ji_ x1, ji_ x2, u3, u4, u5] [jr_ b0] (N, K, M, g) Q :=
  j_iload_n d_Mo_readHunk_60 rfl <| j_if_ne d_Mo_readHunk_61 r1 (fun h => j_iconst d_Mo_readHunk_72 <| k1 h) k2
theorem s_Mo_readHunk_64 {G : j_G} {d B S N : Nat} {K : Nat → Option (Nat × Nat)} {M : Nat → Int → Int} {g : Nat → Int → Option Nat} {Q : j_O → j_S → Prop} {a0 b0 : Nat} {x1 x2 : Int} {u3 u4 u5 : j_V} (r1 : -2147483648 ≤ x2 ∧ x2 ≤ 2147483647 := by omega) (k1 : x2 ≠ 0 → j_J G jm_Mo_readHunk d B S 73 [jr_ a0, ji_ x1, ji_ x2, u3, u4, u5] [ji_ 0, jr_ b0] (N, K, M, g) Q) (k2 : x2 = 0 → j_J G jm_Mo_readHunk d B S 73 [jr_ a0, ji_ x1, ji_ x2, u3, u4, u5] [ji_ 1, jr_ b0] (N, K, M, g) Q) : j_J G jm_Mo_readHunk d B S 64 [jr_ a0, ji_ x1, ji_ x2, u3, u4, u5] [jr_ b0] (N, K, M, g) Q :=
  j_iload_n d_Mo_readHunk_64 rfl <| j_if_ne d_Mo_readHunk_65 r1 (fun h => j_iconst d_Mo_readHunk_72 <| k1 h) (fun h => j_iconst d_Mo_readHunk_68 <| j_goto d_Mo_readHunk_69 <| k2 h)
theorem s_Mo_readHunk_68 {G : j_G} {d B S N : Nat} {K : Nat → Option (Nat × Nat)} {M : Nat → Int → Int} {g : Nat → Int → Option Nat} {Q : j_O → j_S → Prop} {a0 b0 : Nat} {x1 x2 : Int} {u3 u4 u5 : j_V}  (k1 : j_J G jm_Mo_readHunk d B S 73 [jr_ a0, ji_ x1, ji_ x2, u3, u4, u5] [ji_ 1, jr_ b0] (N, K, M, g) Q) : j_J G jm_Mo_readHunk d B S 68 [jr_ a0, ji_ x1, ji_ x2, u3, u4, u5] [jr_ b0] (N, K, M, g) Q :=
  j_iconst d_Mo_readHunk_68 <| j_goto d_Mo_readHunk_69 k1
theorem s_Mo_readHunk_72 {G : j_G} {d B S N : Nat} {K : Nat → Option (Nat × Nat)} {M : Nat → Int → Int} {g : Nat → Int → Option Nat} {Q : j_O → j_S → Prop} {a0 b0 : Nat} {x1 x2 : Int} {u3 u4 u5 : j_V}  (k1 : j_J G jm_Mo_readHunk d B S 73 [jr_ a0, ji_ x1, ji_ x2, u3, u4, u5] [ji_ 0, jr_ b0] (N, K, M, g) Q) : j_J G jm_Mo_readHunk d B S 72 [jr_ a0, ji_ x1, ji_ x2, u3, u4, u5] [jr_ b0] (N, K, M, g) Q :=
  j_iconst d_Mo_readHunk_72 <| k1
theorem s_Mo_readHunk_73 {G : j_G} {d B S N : Nat} {K : Nat → Option (Nat × Nat)} {M : Nat → Int → Int} {g : Nat → Int → Option Nat} {Q : j_O → j_S → Prop} {a0 b0 : Nat} {x1 x2 t1 : Int} {u3 u4 u5 : j_V} {q : (Nat → Int → Int) → Prop} (hk1 : K b0 = some (0, 8)) (hz1 : t1 = 0 ∨ t1 = 1) (hk2 : K a0 = some (0, 8)) (hC : j_Ct G jm_Mo_want d 0 0 [jr_ a0, ji_ 10] (N, K, (j_up M b0 34 t1), g) (j_pV N K g q)) (k1 : ∀ M', q M' → j_J G jm_Mo_readHunk (d + 1) B S 82 [jr_ a0, ji_ x1, ji_ x2, u3, u4, u5] [] (N, K, M', g) Q) : j_J G jm_Mo_readHunk (d + 1) B S 73 [jr_ a0, ji_ x1, ji_ x2, u3, u4, u5] [ji_ t1, jr_ b0] (N, K, M, g) Q :=
  j_putZ' d_Mo_readHunk_73 f_Mo_177 (⟨_, rfl, Or.inl rfl⟩) rfl hk1 hz1 <| j_aload_n d_Mo_readHunk_76 rfl <| j_bipush d_Mo_readHunk_77 (by decide) <| j_aVV (as := [ji_ 10]) (rest := []) d_Mo_readHunk_79 c_Mo_184 hk2 rfl (Nat.le_of_ble_eq_true rfl) hC k1
theorem s_Mo_readHunk_82 {G : j_G} {d B S N : Nat} {K : Nat → Option (Nat × Nat)} {M : Nat → Int → Int} {g : Nat → Int → Option Nat} {Q : j_O → j_S → Prop} {a0 y1 n2 y4 n3 y7 n4 : Nat} {x1 x2 : Int} {u3 u4 u5 : j_V} (hk1 : K a0 = some (0, 8)) (hg2 : g a0 28 = some y1) (hk2 : K y1 = some (1, n2)) (r3 : 0 ≤ (M a0 26) := by omega) (r3' : (M a0 26) < (n2 : Int) := by omega) (hg5 : g a0 29 = some y4) (hk3 : K y4 = some (1, n3)) (r6 : 0 ≤ ((j_up M y1 (M a0 26) x1) a0 26) := by omega) (r6' : ((j_up M y1 (M a0 26) x1) a0 26) < (n3 : Int) := by omega) (hg8 : g a0 31 = some y7) (hk4 : K y7 = some (1, n4)) (r9 : 0 ≤ ((j_up (j_up M y1 (M a0 26) x1) y4 ((j_up M y1 (M a0 26) x1) a0 26) x2) a0 26) := by omega) (r9' : ((j_up (j_up M y1 (M a0 26) x1) y4 ((j_up M y1 (M a0 26) x1) a0 26) x2) a0 26) < (n4 : Int) := by omega) (k1 : j_J G jm_Mo_readHunk d B S 117 [jr_ a0, ji_ x1, ji_ x2, ji_ 0, u4, u5] [] (N, K, (j_up (j_up (j_up M y1 (M a0 26) x1) y4 ((j_up M y1 (M a0 26) x1) a0 26) x2) y7 ((j_up (j_up M y1 (M a0 26) x1) y4 ((j_up M y1 (M a0 26) x1) a0 26) x2) a0 26) ((j_up (j_up M y1 (M a0 26) x1) y4 ((j_up M y1 (M a0 26) x1) a0 26) x2) a0 33)), g) Q) : j_J G jm_Mo_readHunk d B S 82 [jr_ a0, ji_ x1, ji_ x2, u3, u4, u5] [] (N, K, M, g) Q :=
  j_aload_n d_Mo_readHunk_82 rfl <| j_getR d_Mo_readHunk_83 f_Mo_67 hk1 hg2 <| j_aload_n d_Mo_readHunk_86 rfl <| j_getI d_Mo_readHunk_87 f_Mo_187 hk1 <| j_iload_n d_Mo_readHunk_90 rfl <| j_iast d_Mo_readHunk_91 hk2 r3 r3' <| j_aload_n d_Mo_readHunk_92 rfl <| j_getR d_Mo_readHunk_93 f_Mo_70 hk1 hg5 <| j_aload_n d_Mo_readHunk_96 rfl <| j_getI d_Mo_readHunk_97 f_Mo_187 hk1 <| j_iload_n d_Mo_readHunk_100 rfl <| j_iast d_Mo_readHunk_101 hk3 r6 r6' <| j_aload_n d_Mo_readHunk_102 rfl <| j_getR d_Mo_readHunk_103 f_Mo_76 hk1 hg8 <| j_aload_n d_Mo_readHunk_106 rfl <| j_getI d_Mo_readHunk_107 f_Mo_187 hk1 <| j_aload_n d_Mo_readHunk_110 rfl <| j_getI d_Mo_readHunk_111 f_Mo_174 hk1 <| j_iast d_Mo_readHunk_114 hk4 r9 r9' <| j_iconst d_Mo_readHunk_115 <| j_istore_n d_Mo_readHunk_116 rfl rfl <| k1
theorem s_Mo_readHunk_117 {G : j_G} {d B S N : Nat} {K : Nat → Option (Nat × Nat)} {M : Nat → Int → Int} {g : Nat → Int → Option Nat} {Q : j_O → j_S → Prop} {a0 : Nat} {x1 x2 x3 : Int} {u4 u5 : j_V} (hk1 : K a0 = some (0, 8)) (r1 : -2147483648 ≤ (M a0 34) ∧ (M a0 34) ≤ 2147483647 := by omega) (k1 : (M a0 34) ≠ 0 → j_J G jm_Mo_readHunk d B S 336 [jr_ a0, ji_ x1, ji_ x2, ji_ x3, u4, u5] [] (N, K, M, g) Q) (k2 : (M a0 34) = 0 → j_J G jm_Mo_readHunk d B S 124 [jr_ a0, ji_ x1, ji_ x2, ji_ x3, u4, u5] [] (N, K, M, g) Q) : j_J G jm_Mo_readHunk d B S 117 [jr_ a0, ji_ x1, ji_ x2, ji_ x3, u4, u5] [] (N, K, M, g) Q :=
  j_aload_n d_Mo_readHunk_117 rfl <| j_getI d_Mo_readHunk_118 f_Mo_177 hk1 <| j_if_ne d_Mo_readHunk_121 r1 k1 k2
theorem s_Mo_readHunk_124 {G : j_G} {d B S N : Nat} {K : Nat → Option (Nat × Nat)} {M : Nat → Int → Int} {g : Nat → Int → Option Nat} {Q : j_O → j_S → Prop} {a0 : Nat} {x1 x2 x3 : Int} {u4 u5 : j_V} (r1 : -2147483648 ≤ x1 ∧ x1 ≤ 2147483647 := by omega) (k1 : 0 < x1 → j_J G jm_Mo_readHunk d B S 132 [jr_ a0, ji_ x1, ji_ x2, ji_ x3, u4, u5] [] (N, K, M, g) Q) (k2 : x1 ≤ 0 → j_J G jm_Mo_readHunk d B S 128 [jr_ a0, ji_ x1, ji_ x2, ji_ x3, u4, u5] [] (N, K, M, g) Q) : j_J G jm_Mo_readHunk d B S 124 [jr_ a0, ji_ x1, ji_ x2, ji_ x3, u4, u5] [] (N, K, M, g) Q :=
  j_iload_n d_Mo_readHunk_124 rfl <| j_if_gt d_Mo_readHunk_125 r1 k1 k2
theorem s_Mo_readHunk_128 {G : j_G} {d B S N : Nat} {K : Nat → Option (Nat × Nat)} {M : Nat → Int → Int} {g : Nat → Int → Option Nat} {Q : j_O → j_S → Prop} {a0 : Nat} {x1 x2 x3 : Int} {u4 u5 : j_V} (r1 : -2147483648 ≤ x2 ∧ x2 ≤ 2147483647 := by omega) (k1 : x2 ≤ 0 → j_J G jm_Mo_readHunk d B S 336 [jr_ a0, ji_ x1, ji_ x2, ji_ x3, u4, u5] [] (N, K, M, g) Q) (k2 : 0 < x2 → j_J G jm_Mo_readHunk d B S 132 [jr_ a0, ji_ x1, ji_ x2, ji_ x3, u4, u5] [] (N, K, M, g) Q) : j_J G jm_Mo_readHunk d B S 128 [jr_ a0, ji_ x1, ji_ x2, ji_ x3, u4, u5] [] (N, K, M, g) Q :=
  j_iload_n d_Mo_readHunk_128 rfl <| j_if_le d_Mo_readHunk_129 r1 k1 k2
theorem s_Mo_readHunk_132 {G : j_G} {d B S N : Nat} {K : Nat → Option (Nat × Nat)} {M : Nat → Int → Int} {g : Nat → Int → Option Nat} {Q : j_O → j_S → Prop} {a0 : Nat} {x1 x2 x3 : Int} {u4 u5 : j_V} {q : Int → (Nat → Int → Int) → Prop} (hk1 : K a0 = some (0, 8)) (hC : j_Ct G jm_Mo_look d 0 0 [jr_ a0] (N, K, M, g) (j_pI N K g q)) (k1 : ∀ z M', q z M' → j_J G jm_Mo_readHunk (d + 1) B S 136 [jr_ a0, ji_ x1, ji_ x2, ji_ x3, u4, u5] [ji_ z] (N, K, M', g) Q) : j_J G jm_Mo_readHunk (d + 1) B S 132 [jr_ a0, ji_ x1, ji_ x2, ji_ x3, u4, u5] [] (N, K, M, g) Q :=
  j_aload_n d_Mo_readHunk_132 rfl <| j_aVI (as := []) (rest := []) d_Mo_readHunk_133 c_Mo_180 hk1 rfl (Nat.le_of_ble_eq_true rfl) hC k1
theorem s_Mo_readHunk_136 {G : j_G} {d B S N : Nat} {K : Nat → Option (Nat × Nat)} {M : Nat → Int → Int} {g : Nat → Int → Option Nat} {Q : j_O → j_S → Prop} {a0 : Nat} {x1 x2 x3 t0 : Int} {u4 u5 : j_V} (r1 : -2147483648 ≤ t0 ∧ t0 ≤ 2147483647 := by omega) (k1 : t0 ≠ 32 → j_J G jm_Mo_readHunk d B S 161 [jr_ a0, ji_ x1, ji_ x2, ji_ x3, ji_ t0, u5] [] (N, K, M, g) Q) (k2 : t0 = 32 → j_J G jm_Mo_readHunk d B S 145 [jr_ a0, ji_ x1, ji_ x2, ji_ x3, ji_ t0, u5] [] (N, K, M, g) Q) : j_J G jm_Mo_readHunk d B S 136 [jr_ a0, ji_ x1, ji_ x2, ji_ x3, u4, u5] [ji_ t0] (N, K, M, g) Q :=
  j_istore d_Mo_readHunk_136 rfl rfl <| j_iload d_Mo_readHunk_138 rfl <| j_bipush d_Mo_readHunk_140 (by decide) <| j_icmp_ne d_Mo_readHunk_142 r1 (by decide) k1 k2
theorem s_Mo_readHunk_145 {G : j_G} {d B S N : Nat} {K : Nat → Option (Nat × Nat)} {M : Nat → Int → Int} {g : Nat → Int → Option Nat} {Q : j_O → j_S → Prop} {a0 : Nat} {x1 x2 x3 x4 : Int} {u5 : j_V} (r1 : -2147483648 ≤ x1 ∧ x1 ≤ 2147483647 := by omega) (k1 : x1 ≤ 0 → j_J G jm_Mo_readHunk d B S 196 [jr_ a0, ji_ x1, ji_ x2, ji_ x3, ji_ x4, u5] [ji_ 0] (N, K, M, g) Q) (k2 : 0 < x1 → j_J G jm_Mo_readHunk d B S 149 [jr_ a0, ji_ x1, ji_ x2, ji_ x3, ji_ x4, u5] [] (N, K, M, g) Q) : j_J G jm_Mo_readHunk d B S 145 [jr_ a0, ji_ x1, ji_ x2, ji_ x3, ji_ x4, u5] [] (N, K, M, g) Q :=
  j_iload_n d_Mo_readHunk_145 rfl <| j_if_le d_Mo_readHunk_146 r1 (fun h => j_iconst d_Mo_readHunk_157 <| j_goto d_Mo_readHunk_158 <| k1 h) k2
theorem s_Mo_readHunk_149 {G : j_G} {d B S N : Nat} {K : Nat → Option (Nat × Nat)} {M : Nat → Int → Int} {g : Nat → Int → Option Nat} {Q : j_O → j_S → Prop} {a0 : Nat} {x1 x2 x3 x4 : Int} {u5 : j_V} (r1 : -2147483648 ≤ x2 ∧ x2 ≤ 2147483647 := by omega) (k1 : x2 ≤ 0 → j_J G jm_Mo_readHunk d B S 196 [jr_ a0, ji_ x1, ji_ x2, ji_ x3, ji_ x4, u5] [ji_ 0] (N, K, M, g) Q) (k2 : 0 < x2 → j_J G jm_Mo_readHunk d B S 196 [jr_ a0, ji_ x1, ji_ x2, ji_ x3, ji_ x4, u5] [ji_ 1] (N, K, M, g) Q) : j_J G jm_Mo_readHunk d B S 149 [jr_ a0, ji_ x1, ji_ x2, ji_ x3, ji_ x4, u5] [] (N, K, M, g) Q :=
  j_iload_n d_Mo_readHunk_149 rfl <| j_if_le d_Mo_readHunk_150 r1 (fun h => j_iconst d_Mo_readHunk_157 <| j_goto d_Mo_readHunk_158 <| k1 h) (fun h => j_iconst d_Mo_readHunk_153 <| j_goto d_Mo_readHunk_154 <| k2 h)
theorem s_Mo_readHunk_153 {G : j_G} {d B S N : Nat} {K : Nat → Option (Nat × Nat)} {M : Nat → Int → Int} {g : Nat → Int → Option Nat} {Q : j_O → j_S → Prop} {a0 : Nat} {x1 x2 x3 x4 : Int} {u5 : j_V}  (k1 : j_J G jm_Mo_readHunk d B S 196 [jr_ a0, ji_ x1, ji_ x2, ji_ x3, ji_ x4, u5] [ji_ 1] (N, K, M, g) Q) : j_J G jm_Mo_readHunk d B S 153 [jr_ a0, ji_ x1, ji_ x2, ji_ x3, ji_ x4, u5] [] (N, K, M, g) Q :=
  j_iconst d_Mo_readHunk_153 <| j_goto d_Mo_readHunk_154 k1
theorem s_Mo_readHunk_157 {G : j_G} {d B S N : Nat} {K : Nat → Option (Nat × Nat)} {M : Nat → Int → Int} {g : Nat → Int → Option Nat} {Q : j_O → j_S → Prop} {a0 : Nat} {x1 x2 x3 x4 : Int} {u5 : j_V}  (k1 : j_J G jm_Mo_readHunk d B S 196 [jr_ a0, ji_ x1, ji_ x2, ji_ x3, ji_ x4, u5] [ji_ 0] (N, K, M, g) Q) : j_J G jm_Mo_readHunk d B S 157 [jr_ a0, ji_ x1, ji_ x2, ji_ x3, ji_ x4, u5] [] (N, K, M, g) Q :=
  j_iconst d_Mo_readHunk_157 <| j_goto d_Mo_readHunk_158 k1
theorem s_Mo_readHunk_161 {G : j_G} {d B S N : Nat} {K : Nat → Option (Nat × Nat)} {M : Nat → Int → Int} {g : Nat → Int → Option Nat} {Q : j_O → j_S → Prop} {a0 : Nat} {x1 x2 x3 x4 : Int} {u5 : j_V} (r1 : -2147483648 ≤ x4 ∧ x4 ≤ 2147483647 := by omega) (k1 : x4 ≠ 45 → j_J G jm_Mo_readHunk d B S 180 [jr_ a0, ji_ x1, ji_ x2, ji_ x3, ji_ x4, u5] [] (N, K, M, g) Q) (k2 : x4 = 45 → j_J G jm_Mo_readHunk d B S 168 [jr_ a0, ji_ x1, ji_ x2, ji_ x3, ji_ x4, u5] [] (N, K, M, g) Q) : j_J G jm_Mo_readHunk d B S 161 [jr_ a0, ji_ x1, ji_ x2, ji_ x3, ji_ x4, u5] [] (N, K, M, g) Q :=
  j_iload d_Mo_readHunk_161 rfl <| j_bipush d_Mo_readHunk_163 (by decide) <| j_icmp_ne d_Mo_readHunk_165 r1 (by decide) k1 k2
theorem s_Mo_readHunk_168 {G : j_G} {d B S N : Nat} {K : Nat → Option (Nat × Nat)} {M : Nat → Int → Int} {g : Nat → Int → Option Nat} {Q : j_O → j_S → Prop} {a0 : Nat} {x1 x2 x3 x4 : Int} {u5 : j_V} (r1 : -2147483648 ≤ x1 ∧ x1 ≤ 2147483647 := by omega) (k1 : x1 ≤ 0 → j_J G jm_Mo_readHunk d B S 196 [jr_ a0, ji_ x1, ji_ x2, ji_ x3, ji_ x4, u5] [ji_ 0] (N, K, M, g) Q) (k2 : 0 < x1 → j_J G jm_Mo_readHunk d B S 196 [jr_ a0, ji_ x1, ji_ x2, ji_ x3, ji_ x4, u5] [ji_ 1] (N, K, M, g) Q) : j_J G jm_Mo_readHunk d B S 168 [jr_ a0, ji_ x1, ji_ x2, ji_ x3, ji_ x4, u5] [] (N, K, M, g) Q :=
  j_iload_n d_Mo_readHunk_168 rfl <| j_if_le d_Mo_readHunk_169 r1 (fun h => j_iconst d_Mo_readHunk_176 <| j_goto d_Mo_readHunk_177 <| k1 h) (fun h => j_iconst d_Mo_readHunk_172 <| j_goto d_Mo_readHunk_173 <| k2 h)
theorem s_Mo_readHunk_172 {G : j_G} {d B S N : Nat} {K : Nat → Option (Nat × Nat)} {M : Nat → Int → Int} {g : Nat → Int → Option Nat} {Q : j_O → j_S → Prop} {a0 : Nat} {x1 x2 x3 x4 : Int} {u5 : j_V}  (k1 : j_J G jm_Mo_readHunk d B S 196 [jr_ a0, ji_ x1, ji_ x2, ji_ x3, ji_ x4, u5] [ji_ 1] (N, K, M, g) Q) : j_J G jm_Mo_readHunk d B S 172 [jr_ a0, ji_ x1, ji_ x2, ji_ x3, ji_ x4, u5] [] (N, K, M, g) Q :=
  j_iconst d_Mo_readHunk_172 <| j_goto d_Mo_readHunk_173 k1
theorem s_Mo_readHunk_176 {G : j_G} {d B S N : Nat} {K : Nat → Option (Nat × Nat)} {M : Nat → Int → Int} {g : Nat → Int → Option Nat} {Q : j_O → j_S → Prop} {a0 : Nat} {x1 x2 x3 x4 : Int} {u5 : j_V}  (k1 : j_J G jm_Mo_readHunk d B S 196 [jr_ a0, ji_ x1, ji_ x2, ji_ x3, ji_ x4, u5] [ji_ 0] (N, K, M, g) Q) : j_J G jm_Mo_readHunk d B S 176 [jr_ a0, ji_ x1, ji_ x2, ji_ x3, ji_ x4, u5] [] (N, K, M, g) Q :=
  j_iconst d_Mo_readHunk_176 <| j_goto d_Mo_readHunk_177 k1
theorem s_Mo_readHunk_180 {G : j_G} {d B S N : Nat} {K : Nat → Option (Nat × Nat)} {M : Nat → Int → Int} {g : Nat → Int → Option Nat} {Q : j_O → j_S → Prop} {a0 : Nat} {x1 x2 x3 x4 : Int} {u5 : j_V} (r1 : -2147483648 ≤ x4 ∧ x4 ≤ 2147483647 := by omega) (k1 : x4 ≠ 43 → j_J G jm_Mo_readHunk d B S 196 [jr_ a0, ji_ x1, ji_ x2, ji_ x3, ji_ x4, u5] [ji_ 0] (N, K, M, g) Q) (k2 : x4 = 43 → j_J G jm_Mo_readHunk d B S 187 [jr_ a0, ji_ x1, ji_ x2, ji_ x3, ji_ x4, u5] [] (N, K, M, g) Q) : j_J G jm_Mo_readHunk d B S 180 [jr_ a0, ji_ x1, ji_ x2, ji_ x3, ji_ x4, u5] [] (N, K, M, g) Q :=
  j_iload d_Mo_readHunk_180 rfl <| j_bipush d_Mo_readHunk_182 (by decide) <| j_icmp_ne d_Mo_readHunk_184 r1 (by decide) (fun h => j_iconst d_Mo_readHunk_195 <| k1 h) k2
theorem s_Mo_readHunk_187 {G : j_G} {d B S N : Nat} {K : Nat → Option (Nat × Nat)} {M : Nat → Int → Int} {g : Nat → Int → Option Nat} {Q : j_O → j_S → Prop} {a0 : Nat} {x1 x2 x3 x4 : Int} {u5 : j_V} (r1 : -2147483648 ≤ x2 ∧ x2 ≤ 2147483647 := by omega) (k1 : x2 ≤ 0 → j_J G jm_Mo_readHunk d B S 196 [jr_ a0, ji_ x1, ji_ x2, ji_ x3, ji_ x4, u5] [ji_ 0] (N, K, M, g) Q) (k2 : 0 < x2 → j_J G jm_Mo_readHunk d B S 196 [jr_ a0, ji_ x1, ji_ x2, ji_ x3, ji_ x4, u5] [ji_ 1] (N, K, M, g) Q) : j_J G jm_Mo_readHunk d B S 187 [jr_ a0, ji_ x1, ji_ x2, ji_ x3, ji_ x4, u5] [] (N, K, M, g) Q :=
  j_iload_n d_Mo_readHunk_187 rfl <| j_if_le d_Mo_readHunk_188 r1 (fun h => j_iconst d_Mo_readHunk_195 <| k1 h) (fun h => j_iconst d_Mo_readHunk_191 <| j_goto d_Mo_readHunk_192 <| k2 h)
theorem s_Mo_readHunk_191 {G : j_G} {d B S N : Nat} {K : Nat → Option (Nat × Nat)} {M : Nat → Int → Int} {g : Nat → Int → Option Nat} {Q : j_O → j_S → Prop} {a0 : Nat} {x1 x2 x3 x4 : Int} {u5 : j_V}  (k1 : j_J G jm_Mo_readHunk d B S 196 [jr_ a0, ji_ x1, ji_ x2, ji_ x3, ji_ x4, u5] [ji_ 1] (N, K, M, g) Q) : j_J G jm_Mo_readHunk d B S 191 [jr_ a0, ji_ x1, ji_ x2, ji_ x3, ji_ x4, u5] [] (N, K, M, g) Q :=
  j_iconst d_Mo_readHunk_191 <| j_goto d_Mo_readHunk_192 k1
theorem s_Mo_readHunk_195 {G : j_G} {d B S N : Nat} {K : Nat → Option (Nat × Nat)} {M : Nat → Int → Int} {g : Nat → Int → Option Nat} {Q : j_O → j_S → Prop} {a0 : Nat} {x1 x2 x3 x4 : Int} {u5 : j_V}  (k1 : j_J G jm_Mo_readHunk d B S 196 [jr_ a0, ji_ x1, ji_ x2, ji_ x3, ji_ x4, u5] [ji_ 0] (N, K, M, g) Q) : j_J G jm_Mo_readHunk d B S 195 [jr_ a0, ji_ x1, ji_ x2, ji_ x3, ji_ x4, u5] [] (N, K, M, g) Q :=
  j_iconst d_Mo_readHunk_195 <| k1
theorem s_Mo_readHunk_196 {G : j_G} {d B S N : Nat} {K : Nat → Option (Nat × Nat)} {M : Nat → Int → Int} {g : Nat → Int → Option Nat} {Q : j_O → j_S → Prop} {a0 : Nat} {x1 x2 x3 x4 t0 : Int} {u5 : j_V} (r1 : -2147483648 ≤ t0 ∧ t0 ≤ 2147483647 := by omega) (k1 : t0 ≠ 0 → j_J G jm_Mo_readHunk d B S 209 [jr_ a0, ji_ x1, ji_ x2, ji_ x3, ji_ x4, ji_ t0] [ji_ 0, jr_ a0] (N, K, M, g) Q) (k2 : t0 = 0 → j_J G jm_Mo_readHunk d B S 209 [jr_ a0, ji_ x1, ji_ x2, ji_ x3, ji_ x4, ji_ t0] [ji_ 1, jr_ a0] (N, K, M, g) Q) : j_J G jm_Mo_readHunk d B S 196 [jr_ a0, ji_ x1, ji_ x2, ji_ x3, ji_ x4, u5] [ji_ t0] (N, K, M, g) Q :=
  j_istore d_Mo_readHunk_196 rfl rfl <| j_aload_n d_Mo_readHunk_198 rfl <| j_iload d_Mo_readHunk_199 rfl <| j_if_ne d_Mo_readHunk_201 r1 (fun h => j_iconst d_Mo_readHunk_208 <| k1 h) (fun h => j_iconst d_Mo_readHunk_204 <| j_goto d_Mo_readHunk_205 <| k2 h)
theorem s_Mo_readHunk_204 {G : j_G} {d B S N : Nat} {K : Nat → Option (Nat × Nat)} {M : Nat → Int → Int} {g : Nat → Int → Option Nat} {Q : j_O → j_S → Prop} {a0 b0 : Nat} {x1 x2 x3 x4 x5 : Int}  (k1 : j_J G jm_Mo_readHunk d B S 209 [jr_ a0, ji_ x1, ji_ x2, ji_ x3, ji_ x4, ji_ x5] [ji_ 1, jr_ b0] (N, K, M, g) Q) : j_J G jm_Mo_readHunk d B S 204 [jr_ a0, ji_ x1, ji_ x2, ji_ x3, ji_ x4, ji_ x5] [jr_ b0] (N, K, M, g) Q :=
  j_iconst d_Mo_readHunk_204 <| j_goto d_Mo_readHunk_205 k1
theorem s_Mo_readHunk_208 {G : j_G} {d B S N : Nat} {K : Nat → Option (Nat × Nat)} {M : Nat → Int → Int} {g : Nat → Int → Option Nat} {Q : j_O → j_S → Prop} {a0 b0 : Nat} {x1 x2 x3 x4 x5 : Int}  (k1 : j_J G jm_Mo_readHunk d B S 209 [jr_ a0, ji_ x1, ji_ x2, ji_ x3, ji_ x4, ji_ x5] [ji_ 0, jr_ b0] (N, K, M, g) Q) : j_J G jm_Mo_readHunk d B S 208 [jr_ a0, ji_ x1, ji_ x2, ji_ x3, ji_ x4, ji_ x5] [jr_ b0] (N, K, M, g) Q :=
  j_iconst d_Mo_readHunk_208 <| k1
theorem s_Mo_readHunk_209 {G : j_G} {d B S N : Nat} {K : Nat → Option (Nat × Nat)} {M : Nat → Int → Int} {g : Nat → Int → Option Nat} {Q : j_O → j_S → Prop} {a0 b0 : Nat} {x1 x2 x3 x4 x5 t1 : Int} (hk1 : K b0 = some (0, 8)) (hz1 : t1 = 0 ∨ t1 = 1) (r2 : -2147483648 ≤ x5 ∧ x5 ≤ 2147483647 := by omega) (k1 : x5 = 0 → j_J G jm_Mo_readHunk d B S 231 [jr_ a0, ji_ x1, ji_ x2, ji_ x3, ji_ x4, ji_ x5] [ji_ x1] (N, K, (j_up M b0 34 t1), g) Q) (k2 : x5 ≠ 0 → j_J G jm_Mo_readHunk d B S 217 [jr_ a0, ji_ x1, ji_ x2, ji_ x3, ji_ x4, ji_ x5] [] (N, K, (j_up M b0 34 t1), g) Q) : j_J G jm_Mo_readHunk d B S 209 [jr_ a0, ji_ x1, ji_ x2, ji_ x3, ji_ x4, ji_ x5] [ji_ t1, jr_ b0] (N, K, M, g) Q :=
  j_putZ' d_Mo_readHunk_209 f_Mo_177 (⟨_, rfl, Or.inl rfl⟩) rfl hk1 hz1 <| j_iload d_Mo_readHunk_212 rfl <| j_if_eq d_Mo_readHunk_214 r2 (fun h => j_iload_n d_Mo_readHunk_230 rfl <| k1 h) k2
theorem s_Mo_readHunk_217 {G : j_G} {d B S N : Nat} {K : Nat → Option (Nat × Nat)} {M : Nat → Int → Int} {g : Nat → Int → Option Nat} {Q : j_O → j_S → Prop} {a0 : Nat} {x1 x2 x3 x4 x5 : Int} (r1 : -2147483648 ≤ x4 ∧ x4 ≤ 2147483647 := by omega) (k1 : x4 = 43 → j_J G jm_Mo_readHunk d B S 231 [jr_ a0, ji_ x1, ji_ x2, ji_ x3, ji_ x4, ji_ x5] [ji_ x1] (N, K, M, g) Q) (k2 : x4 ≠ 43 → j_J G jm_Mo_readHunk d B S 231 [jr_ a0, ji_ x1, ji_ x2, ji_ x3, ji_ x4, ji_ x5] [ji_ (x1 - 1)] (N, K, M, g) Q) : j_J G jm_Mo_readHunk d B S 217 [jr_ a0, ji_ x1, ji_ x2, ji_ x3, ji_ x4, ji_ x5] [] (N, K, M, g) Q :=
  j_iload d_Mo_readHunk_217 rfl <| j_bipush d_Mo_readHunk_219 (by decide) <| j_icmp_eq d_Mo_readHunk_221 r1 (by decide) (fun h => j_iload_n d_Mo_readHunk_230 rfl <| k1 h) (fun h => j_iload_n d_Mo_readHunk_224 rfl <| j_iconst d_Mo_readHunk_225 <| j_isub d_Mo_readHunk_226 <| j_goto d_Mo_readHunk_227 <| k2 h)
theorem s_Mo_readHunk_224 {G : j_G} {d B S N : Nat} {K : Nat → Option (Nat × Nat)} {M : Nat → Int → Int} {g : Nat → Int → Option Nat} {Q : j_O → j_S → Prop} {a0 : Nat} {x1 x2 x3 x4 x5 : Int}  (k1 : j_J G jm_Mo_readHunk d B S 231 [jr_ a0, ji_ x1, ji_ x2, ji_ x3, ji_ x4, ji_ x5] [ji_ (x1 - 1)] (N, K, M, g) Q) : j_J G jm_Mo_readHunk d B S 224 [jr_ a0, ji_ x1, ji_ x2, ji_ x3, ji_ x4, ji_ x5] [] (N, K, M, g) Q :=
  j_iload_n d_Mo_readHunk_224 rfl <| j_iconst d_Mo_readHunk_225 <| j_isub d_Mo_readHunk_226 <| j_goto d_Mo_readHunk_227 k1
theorem s_Mo_readHunk_230 {G : j_G} {d B S N : Nat} {K : Nat → Option (Nat × Nat)} {M : Nat → Int → Int} {g : Nat → Int → Option Nat} {Q : j_O → j_S → Prop} {a0 : Nat} {x1 x2 x3 x4 x5 : Int}  (k1 : j_J G jm_Mo_readHunk d B S 231 [jr_ a0, ji_ x1, ji_ x2, ji_ x3, ji_ x4, ji_ x5] [ji_ x1] (N, K, M, g) Q) : j_J G jm_Mo_readHunk d B S 230 [jr_ a0, ji_ x1, ji_ x2, ji_ x3, ji_ x4, ji_ x5] [] (N, K, M, g) Q :=
  j_iload_n d_Mo_readHunk_230 rfl <| k1
theorem s_Mo_readHunk_231 {G : j_G} {d B S N : Nat} {K : Nat → Option (Nat × Nat)} {M : Nat → Int → Int} {g : Nat → Int → Option Nat} {Q : j_O → j_S → Prop} {a0 : Nat} {x1 x2 x3 x4 x5 t0 : Int} (r1 : -2147483648 ≤ x5 ∧ x5 ≤ 2147483647 := by omega) (k1 : x5 = 0 → j_J G jm_Mo_readHunk d B S 251 [jr_ a0, ji_ t0, ji_ x2, ji_ x3, ji_ x4, ji_ x5] [ji_ x2] (N, K, M, g) Q) (k2 : x5 ≠ 0 → j_J G jm_Mo_readHunk d B S 237 [jr_ a0, ji_ t0, ji_ x2, ji_ x3, ji_ x4, ji_ x5] [] (N, K, M, g) Q) : j_J G jm_Mo_readHunk d B S 231 [jr_ a0, ji_ x1, ji_ x2, ji_ x3, ji_ x4, ji_ x5] [ji_ t0] (N, K, M, g) Q :=
  j_istore_n d_Mo_readHunk_231 rfl rfl <| j_iload d_Mo_readHunk_232 rfl <| j_if_eq d_Mo_readHunk_234 r1 (fun h => j_iload_n d_Mo_readHunk_250 rfl <| k1 h) k2
theorem s_Mo_readHunk_237 {G : j_G} {d B S N : Nat} {K : Nat → Option (Nat × Nat)} {M : Nat → Int → Int} {g : Nat → Int → Option Nat} {Q : j_O → j_S → Prop} {a0 : Nat} {x1 x2 x3 x4 x5 : Int} (r1 : -2147483648 ≤ x4 ∧ x4 ≤ 2147483647 := by omega) (k1 : x4 = 45 → j_J G jm_Mo_readHunk d B S 251 [jr_ a0, ji_ x1, ji_ x2, ji_ x3, ji_ x4, ji_ x5] [ji_ x2] (N, K, M, g) Q) (k2 : x4 ≠ 45 → j_J G jm_Mo_readHunk d B S 251 [jr_ a0, ji_ x1, ji_ x2, ji_ x3, ji_ x4, ji_ x5] [ji_ (x2 - 1)] (N, K, M, g) Q) : j_J G jm_Mo_readHunk d B S 237 [jr_ a0, ji_ x1, ji_ x2, ji_ x3, ji_ x4, ji_ x5] [] (N, K, M, g) Q :=
  j_iload d_Mo_readHunk_237 rfl <| j_bipush d_Mo_readHunk_239 (by decide) <| j_icmp_eq d_Mo_readHunk_241 r1 (by decide) (fun h => j_iload_n d_Mo_readHunk_250 rfl <| k1 h) (fun h => j_iload_n d_Mo_readHunk_244 rfl <| j_iconst d_Mo_readHunk_245 <| j_isub d_Mo_readHunk_246 <| j_goto d_Mo_readHunk_247 <| k2 h)
theorem s_Mo_readHunk_244 {G : j_G} {d B S N : Nat} {K : Nat → Option (Nat × Nat)} {M : Nat → Int → Int} {g : Nat → Int → Option Nat} {Q : j_O → j_S → Prop} {a0 : Nat} {x1 x2 x3 x4 x5 : Int}  (k1 : j_J G jm_Mo_readHunk d B S 251 [jr_ a0, ji_ x1, ji_ x2, ji_ x3, ji_ x4, ji_ x5] [ji_ (x2 - 1)] (N, K, M, g) Q) : j_J G jm_Mo_readHunk d B S 244 [jr_ a0, ji_ x1, ji_ x2, ji_ x3, ji_ x4, ji_ x5] [] (N, K, M, g) Q :=
  j_iload_n d_Mo_readHunk_244 rfl <| j_iconst d_Mo_readHunk_245 <| j_isub d_Mo_readHunk_246 <| j_goto d_Mo_readHunk_247 k1
theorem s_Mo_readHunk_250 {G : j_G} {d B S N : Nat} {K : Nat → Option (Nat × Nat)} {M : Nat → Int → Int} {g : Nat → Int → Option Nat} {Q : j_O → j_S → Prop} {a0 : Nat} {x1 x2 x3 x4 x5 : Int}  (k1 : j_J G jm_Mo_readHunk d B S 251 [jr_ a0, ji_ x1, ji_ x2, ji_ x3, ji_ x4, ji_ x5] [ji_ x2] (N, K, M, g) Q) : j_J G jm_Mo_readHunk d B S 250 [jr_ a0, ji_ x1, ji_ x2, ji_ x3, ji_ x4, ji_ x5] [] (N, K, M, g) Q :=
  j_iload_n d_Mo_readHunk_250 rfl <| k1
theorem s_Mo_readHunk_251 {G : j_G} {d B S N : Nat} {K : Nat → Option (Nat × Nat)} {M : Nat → Int → Int} {g : Nat → Int → Option Nat} {Q : j_O → j_S → Prop} {a0 : Nat} {x1 x2 x3 x4 x5 t0 : Int} (r1 : -2147483648 ≤ x5 ∧ x5 ≤ 2147483647 := by omega) (k1 : x5 = 0 → j_J G jm_Mo_readHunk d B S 267 [jr_ a0, ji_ x1, ji_ t0, ji_ x3, ji_ x4, ji_ x5] [jr_ a0] (N, K, M, g) Q) (k2 : x5 ≠ 0 → j_J G jm_Mo_readHunk d B S 258 [jr_ a0, ji_ x1, ji_ t0, ji_ x3, ji_ x4, ji_ x5] [jr_ a0] (N, K, M, g) Q) : j_J G jm_Mo_readHunk d B S 251 [jr_ a0, ji_ x1, ji_ x2, ji_ x3, ji_ x4, ji_ x5] [ji_ t0] (N, K, M, g) Q :=
  j_istore_n d_Mo_readHunk_251 rfl rfl <| j_aload_n d_Mo_readHunk_252 rfl <| j_iload d_Mo_readHunk_253 rfl <| j_if_eq d_Mo_readHunk_255 r1 k1 k2
theorem s_Mo_readHunk_258 {G : j_G} {d B S N : Nat} {K : Nat → Option (Nat × Nat)} {M : Nat → Int → Int} {g : Nat → Int → Option Nat} {Q : j_O → j_S → Prop} {a0 b0 : Nat} {x1 x2 x3 x4 x5 : Int} (hk1 : K a0 = some (0, 8)) (k1 : j_J G jm_Mo_readHunk d B S 271 [jr_ a0, ji_ x1, ji_ x2, ji_ x3, ji_ x4, ji_ x5] [ji_ ((M a0 33) + 1), jr_ b0] (N, K, M, g) Q) : j_J G jm_Mo_readHunk d B S 258 [jr_ a0, ji_ x1, ji_ x2, ji_ x3, ji_ x4, ji_ x5] [jr_ b0] (N, K, M, g) Q :=
  j_aload_n d_Mo_readHunk_258 rfl <| j_getI d_Mo_readHunk_259 f_Mo_174 hk1 <| j_iconst d_Mo_readHunk_262 <| j_iadd d_Mo_readHunk_263 <| j_goto d_Mo_readHunk_264 k1
theorem s_Mo_readHunk_267 {G : j_G} {d B S N : Nat} {K : Nat → Option (Nat × Nat)} {M : Nat → Int → Int} {g : Nat → Int → Option Nat} {Q : j_O → j_S → Prop} {a0 b0 : Nat} {x1 x2 x3 x4 x5 : Int} (hk1 : K a0 = some (0, 8)) (k1 : j_J G jm_Mo_readHunk d B S 271 [jr_ a0, ji_ x1, ji_ x2, ji_ x3, ji_ x4, ji_ x5] [ji_ (M a0 33), jr_ b0] (N, K, M, g) Q) : j_J G jm_Mo_readHunk d B S 267 [jr_ a0, ji_ x1, ji_ x2, ji_ x3, ji_ x4, ji_ x5] [jr_ b0] (N, K, M, g) Q :=
  j_aload_n d_Mo_readHunk_267 rfl <| j_getI d_Mo_readHunk_268 f_Mo_174 hk1 <| k1
theorem s_Mo_readHunk_271 {G : j_G} {d B S N : Nat} {K : Nat → Option (Nat × Nat)} {M : Nat → Int → Int} {g : Nat → Int → Option Nat} {Q : j_O → j_S → Prop} {a0 b0 : Nat} {x1 x2 x3 x4 x5 t1 : Int} (hk1 : K b0 = some (0, 8)) (hk2 : K a0 = some (0, 8)) (r1 : -2147483648 ≤ ((j_up M b0 33 t1) a0 34) ∧ ((j_up M b0 33 t1) a0 34) ≤ 2147483647 := by omega) (k1 : ((j_up M b0 33 t1) a0 34) ≠ 0 → j_J G jm_Mo_readHunk d B S 297 [jr_ a0, ji_ x1, ji_ x2, ji_ x3, ji_ x4, ji_ x5] [ji_ 1, jr_ a0] (N, K, (j_up M b0 33 t1), g) Q) (k2 : ((j_up M b0 33 t1) a0 34) = 0 → j_J G jm_Mo_readHunk d B S 282 [jr_ a0, ji_ x1, ji_ x2, ji_ x3, ji_ x4, ji_ x5] [jr_ a0] (N, K, (j_up M b0 33 t1), g) Q) : j_J G jm_Mo_readHunk d B S 271 [jr_ a0, ji_ x1, ji_ x2, ji_ x3, ji_ x4, ji_ x5] [ji_ t1, jr_ b0] (N, K, M, g) Q :=
  j_putI d_Mo_readHunk_271 f_Mo_174 (⟨_, rfl, Or.inl rfl⟩) rfl hk1 <| j_aload_n d_Mo_readHunk_274 rfl <| j_aload_n d_Mo_readHunk_275 rfl <| j_getI d_Mo_readHunk_276 f_Mo_177 hk2 <| j_if_ne d_Mo_readHunk_279 r1 (fun h => j_iconst d_Mo_readHunk_292 <| j_goto d_Mo_readHunk_293 <| k1 h) k2
theorem s_Mo_readHunk_282 {G : j_G} {d B S N : Nat} {K : Nat → Option (Nat × Nat)} {M : Nat → Int → Int} {g : Nat → Int → Option Nat} {Q : j_O → j_S → Prop} {a0 b0 : Nat} {x1 x2 x3 x4 x5 : Int} {q : Int → (Nat → Int → Int) → Prop} (hk1 : K a0 = some (0, 8)) (hC : j_Ct G jm_Mo_look d 0 0 [jr_ a0] (N, K, M, g) (j_pI N K g q)) (k1 : ∀ z M', q z M' → j_J G jm_Mo_readHunk (d + 1) B S 286 [jr_ a0, ji_ x1, ji_ x2, ji_ x3, ji_ x4, ji_ x5] [ji_ z, jr_ b0] (N, K, M', g) Q) : j_J G jm_Mo_readHunk (d + 1) B S 282 [jr_ a0, ji_ x1, ji_ x2, ji_ x3, ji_ x4, ji_ x5] [jr_ b0] (N, K, M, g) Q :=
  j_aload_n d_Mo_readHunk_282 rfl <| j_aVI (as := []) (rest := [jr_ b0]) d_Mo_readHunk_283 c_Mo_180 hk1 rfl (Nat.le_of_ble_eq_true rfl) hC k1
theorem s_Mo_readHunk_286 {G : j_G} {d B S N : Nat} {K : Nat → Option (Nat × Nat)} {M : Nat → Int → Int} {g : Nat → Int → Option Nat} {Q : j_O → j_S → Prop} {a0 b0 : Nat} {x1 x2 x3 x4 x5 t1 : Int} {q : Int → (Nat → Int → Int) → Prop} (hC : j_Ct G jm_Mo_isLetter d 0 0 [ji_ t1] (N, K, M, g) (j_pI N K g q)) (k1 : ∀ z M', q z M' → j_J G jm_Mo_readHunk (d + 1) B S 289 [jr_ a0, ji_ x1, ji_ x2, ji_ x3, ji_ x4, ji_ x5] [ji_ z, jr_ b0] (N, K, M', g) Q) : j_J G jm_Mo_readHunk (d + 1) B S 286 [jr_ a0, ji_ x1, ji_ x2, ji_ x3, ji_ x4, ji_ x5] [ji_ t1, jr_ b0] (N, K, M, g) Q :=
  j_aSI (as := [ji_ t1]) (rest := [jr_ b0]) d_Mo_readHunk_286 c_Mo_92 rfl (Nat.le_of_ble_eq_true rfl) hC k1
theorem s_Mo_readHunk_289 {G : j_G} {d B S N : Nat} {K : Nat → Option (Nat × Nat)} {M : Nat → Int → Int} {g : Nat → Int → Option Nat} {Q : j_O → j_S → Prop} {a0 b0 : Nat} {x1 x2 x3 x4 x5 t1 : Int} (r1 : -2147483648 ≤ t1 ∧ t1 ≤ 2147483647 := by omega) (k1 : t1 ≠ 0 → j_J G jm_Mo_readHunk d B S 297 [jr_ a0, ji_ x1, ji_ x2, ji_ x3, ji_ x4, ji_ x5] [ji_ 0, jr_ b0] (N, K, M, g) Q) (k2 : t1 = 0 → j_J G jm_Mo_readHunk d B S 297 [jr_ a0, ji_ x1, ji_ x2, ji_ x3, ji_ x4, ji_ x5] [ji_ 1, jr_ b0] (N, K, M, g) Q) : j_J G jm_Mo_readHunk d B S 289 [jr_ a0, ji_ x1, ji_ x2, ji_ x3, ji_ x4, ji_ x5] [ji_ t1, jr_ b0] (N, K, M, g) Q :=
  j_if_ne d_Mo_readHunk_289 r1 (fun h => j_iconst d_Mo_readHunk_296 <| k1 h) (fun h => j_iconst d_Mo_readHunk_292 <| j_goto d_Mo_readHunk_293 <| k2 h)
theorem s_Mo_readHunk_292 {G : j_G} {d B S N : Nat} {K : Nat → Option (Nat × Nat)} {M : Nat → Int → Int} {g : Nat → Int → Option Nat} {Q : j_O → j_S → Prop} {a0 b0 : Nat} {x1 x2 x3 x4 x5 : Int}  (k1 : j_J G jm_Mo_readHunk d B S 297 [jr_ a0, ji_ x1, ji_ x2, ji_ x3, ji_ x4, ji_ x5] [ji_ 1, jr_ b0] (N, K, M, g) Q) : j_J G jm_Mo_readHunk d B S 292 [jr_ a0, ji_ x1, ji_ x2, ji_ x3, ji_ x4, ji_ x5] [jr_ b0] (N, K, M, g) Q :=
  j_iconst d_Mo_readHunk_292 <| j_goto d_Mo_readHunk_293 k1
theorem s_Mo_readHunk_296 {G : j_G} {d B S N : Nat} {K : Nat → Option (Nat × Nat)} {M : Nat → Int → Int} {g : Nat → Int → Option Nat} {Q : j_O → j_S → Prop} {a0 b0 : Nat} {x1 x2 x3 x4 x5 : Int}  (k1 : j_J G jm_Mo_readHunk d B S 297 [jr_ a0, ji_ x1, ji_ x2, ji_ x3, ji_ x4, ji_ x5] [ji_ 0, jr_ b0] (N, K, M, g) Q) : j_J G jm_Mo_readHunk d B S 296 [jr_ a0, ji_ x1, ji_ x2, ji_ x3, ji_ x4, ji_ x5] [jr_ b0] (N, K, M, g) Q :=
  j_iconst d_Mo_readHunk_296 <| k1
theorem s_Mo_readHunk_297 {G : j_G} {d B S N : Nat} {K : Nat → Option (Nat × Nat)} {M : Nat → Int → Int} {g : Nat → Int → Option Nat} {Q : j_O → j_S → Prop} {a0 b0 : Nat} {x1 x2 x3 x4 x5 t1 : Int} (hk1 : K b0 = some (0, 8)) (hz1 : t1 = 0 ∨ t1 = 1) (hk2 : K a0 = some (0, 8)) (r2 : -2147483648 ≤ ((j_up M b0 34 t1) a0 34) ∧ ((j_up M b0 34 t1) a0 34) ≤ 2147483647 := by omega) (k1 : ((j_up M b0 34 t1) a0 34) = 0 → j_J G jm_Mo_readHunk d B S 315 [jr_ a0, ji_ x1, ji_ x2, ji_ x3, ji_ x4, ji_ x5] [jr_ a0] (N, K, (j_up M b0 34 t1), g) Q) (k2 : ((j_up M b0 34 t1) a0 34) ≠ 0 → j_J G jm_Mo_readHunk d B S 308 [jr_ a0, ji_ x1, ji_ x2, ji_ x3, ji_ x4, ji_ x5] [jr_ a0] (N, K, (j_up M b0 34 t1), g) Q) : j_J G jm_Mo_readHunk d B S 297 [jr_ a0, ji_ x1, ji_ x2, ji_ x3, ji_ x4, ji_ x5] [ji_ t1, jr_ b0] (N, K, M, g) Q :=
  j_putZ' d_Mo_readHunk_297 f_Mo_177 (⟨_, rfl, Or.inl rfl⟩) rfl hk1 hz1 <| j_aload_n d_Mo_readHunk_300 rfl <| j_aload_n d_Mo_readHunk_301 rfl <| j_getI d_Mo_readHunk_302 f_Mo_177 hk2 <| j_if_eq d_Mo_readHunk_305 r2 k1 k2
theorem s_Mo_readHunk_308 {G : j_G} {d B S N : Nat} {K : Nat → Option (Nat × Nat)} {M : Nat → Int → Int} {g : Nat → Int → Option Nat} {Q : j_O → j_S → Prop} {a0 b0 : Nat} {x1 x2 x3 x4 x5 : Int} (hk1 : K a0 = some (0, 8)) (k1 : j_J G jm_Mo_readHunk d B S 321 [jr_ a0, ji_ x1, ji_ x2, ji_ x3, ji_ x4, ji_ x5] [ji_ (M a0 33), jr_ b0] (N, K, M, g) Q) : j_J G jm_Mo_readHunk d B S 308 [jr_ a0, ji_ x1, ji_ x2, ji_ x3, ji_ x4, ji_ x5] [jr_ b0] (N, K, M, g) Q :=
  j_aload_n d_Mo_readHunk_308 rfl <| j_getI d_Mo_readHunk_309 f_Mo_174 hk1 <| j_goto d_Mo_readHunk_312 k1
theorem s_Mo_readHunk_315 {G : j_G} {d B S N : Nat} {K : Nat → Option (Nat × Nat)} {M : Nat → Int → Int} {g : Nat → Int → Option Nat} {Q : j_O → j_S → Prop} {a0 b0 : Nat} {x1 x2 x3 x4 x5 : Int} (hk1 : K a0 = some (0, 8)) (k1 : j_J G jm_Mo_readHunk d B S 321 [jr_ a0, ji_ x1, ji_ x2, ji_ x3, ji_ x4, ji_ x5] [ji_ ((M a0 33) + 1), jr_ b0] (N, K, M, g) Q) : j_J G jm_Mo_readHunk d B S 315 [jr_ a0, ji_ x1, ji_ x2, ji_ x3, ji_ x4, ji_ x5] [jr_ b0] (N, K, M, g) Q :=
  j_aload_n d_Mo_readHunk_315 rfl <| j_getI d_Mo_readHunk_316 f_Mo_174 hk1 <| j_iconst d_Mo_readHunk_319 <| j_iadd d_Mo_readHunk_320 <| k1
theorem s_Mo_readHunk_321 {G : j_G} {d B S N : Nat} {K : Nat → Option (Nat × Nat)} {M : Nat → Int → Int} {g : Nat → Int → Option Nat} {Q : j_O → j_S → Prop} {a0 b0 : Nat} {x1 x2 x3 x4 x5 t1 : Int} {q : (Nat → Int → Int) → Prop} (hk1 : K b0 = some (0, 8)) (hk2 : K a0 = some (0, 8)) (hC : j_Ct G jm_Mo_want d 0 0 [jr_ a0, ji_ 10] (N, K, (j_up M b0 33 t1), g) (j_pV N K g q)) (k1 : ∀ M', q M' → j_J G jm_Mo_readHunk (d + 1) B S 330 [jr_ a0, ji_ x1, ji_ x2, ji_ x3, ji_ x4, ji_ x5] [] (N, K, M', g) Q) : j_J G jm_Mo_readHunk (d + 1) B S 321 [jr_ a0, ji_ x1, ji_ x2, ji_ x3, ji_ x4, ji_ x5] [ji_ t1, jr_ b0] (N, K, M, g) Q :=
  j_putI d_Mo_readHunk_321 f_Mo_174 (⟨_, rfl, Or.inl rfl⟩) rfl hk1 <| j_aload_n d_Mo_readHunk_324 rfl <| j_bipush d_Mo_readHunk_325 (by decide) <| j_aVV (as := [ji_ 10]) (rest := []) d_Mo_readHunk_327 c_Mo_184 hk2 rfl (Nat.le_of_ble_eq_true rfl) hC k1
theorem s_Mo_readHunk_330 {G : j_G} {d B S N : Nat} {K : Nat → Option (Nat × Nat)} {M : Nat → Int → Int} {g : Nat → Int → Option Nat} {Q : j_O → j_S → Prop} {a0 : Nat} {x1 x2 x3 x4 x5 : Int}  (k1 : j_J G jm_Mo_readHunk d B S 117 [jr_ a0, ji_ x1, ji_ x2, ji_ (x3 + 1), ji_ x4, ji_ x5] [] (N, K, M, g) Q) : j_J G jm_Mo_readHunk d B S 330 [jr_ a0, ji_ x1, ji_ x2, ji_ x3, ji_ x4, ji_ x5] [] (N, K, M, g) Q :=
  j_iinc d_Mo_readHunk_330 rfl rfl rfl <| j_goto d_Mo_readHunk_333 k1
theorem s_Mo_readHunk_336 {G : j_G} {d B S N : Nat} {K : Nat → Option (Nat × Nat)} {M : Nat → Int → Int} {g : Nat → Int → Option Nat} {Q : j_O → j_S → Prop} {a0 y1 n2 : Nat} {x1 x2 x3 : Int} {u4 u5 : j_V} (hk1 : K a0 = some (0, 8)) (hg2 : g a0 30 = some y1) (hk2 : K y1 = some (1, n2)) (r3 : 0 ≤ (M a0 26) := by omega) (r3' : (M a0 26) < (n2 : Int) := by omega) (k1 : Q (.inl none) (N, K, (j_up (j_up M y1 (M a0 26) x3) a0 26 (((j_up M y1 (M a0 26) x3) a0 26) + 1)), g)) : j_J G jm_Mo_readHunk d B S 336 [jr_ a0, ji_ x1, ji_ x2, ji_ x3, u4, u5] [] (N, K, M, g) Q :=
  j_aload_n d_Mo_readHunk_336 rfl <| j_getR d_Mo_readHunk_337 f_Mo_73 hk1 hg2 <| j_aload_n d_Mo_readHunk_340 rfl <| j_getI d_Mo_readHunk_341 f_Mo_187 hk1 <| j_iload_n d_Mo_readHunk_344 rfl <| j_iast d_Mo_readHunk_345 hk2 r3 r3' <| j_aload_n d_Mo_readHunk_346 rfl <| j_dupR d_Mo_readHunk_347 <| j_getI d_Mo_readHunk_348 f_Mo_187 hk1 <| j_iconst d_Mo_readHunk_351 <| j_iadd d_Mo_readHunk_352 <| j_putI d_Mo_readHunk_353 f_Mo_187 (⟨_, rfl, Or.inl rfl⟩) rfl hk1 <| j_vreturn d_Mo_readHunk_356 rfl k1
theorem s_Mo_read_0 {G : j_G} {d B S N : Nat} {K : Nat → Option (Nat × Nat)} {M : Nat → Int → Int} {g : Nat → Int → Option Nat} {Q : j_O → j_S → Prop} {a0 : Nat} (hk1 : K a0 = some (0, 8)) (k1 : j_J G jm_Mo_read d B S 15 [jr_ a0] [] (N, K, (j_up (j_up (j_up M a0 33 0) a0 26 0) a0 34 0), g) Q) : j_J G jm_Mo_read d B S 0 [jr_ a0] [] (N, K, M, g) Q :=
  j_aload_n d_Mo_read_0 rfl <| j_iconst d_Mo_read_1 <| j_putI d_Mo_read_2 f_Mo_174 (⟨_, rfl, Or.inl rfl⟩) rfl hk1 <| j_aload_n d_Mo_read_5 rfl <| j_iconst d_Mo_read_6 <| j_putI d_Mo_read_7 f_Mo_187 (⟨_, rfl, Or.inl rfl⟩) rfl hk1 <| j_aload_n d_Mo_read_10 rfl <| j_iconst d_Mo_read_11 <| j_putZ' d_Mo_read_12 f_Mo_177 (⟨_, rfl, Or.inl rfl⟩) rfl hk1 (Or.inl rfl) <| k1
theorem s_Mo_read_15 {G : j_G} {d B S N : Nat} {K : Nat → Option (Nat × Nat)} {M : Nat → Int → Int} {g : Nat → Int → Option Nat} {Q : j_O → j_S → Prop} {a0 : Nat} (hk1 : K a0 = some (0, 8)) (r1 : -2147483648 ≤ (M a0 33) ∧ (M a0 33) ≤ 2147483647 := by omega) (r2 : -2147483648 ≤ (M a0 24) ∧ (M a0 24) ≤ 2147483647 := by omega) (k1 : (M a0 24) ≤ (M a0 33) → j_J G jm_Mo_read d B S 40 [jr_ a0] [] (N, K, M, g) Q) (k2 : (M a0 33) < (M a0 24) → j_J G jm_Mo_read d B S 26 [jr_ a0] [] (N, K, M, g) Q) : j_J G jm_Mo_read d B S 15 [jr_ a0] [] (N, K, M, g) Q :=
  j_aload_n d_Mo_read_15 rfl <| j_getI d_Mo_read_16 f_Mo_174 hk1 <| j_aload_n d_Mo_read_19 rfl <| j_getI d_Mo_read_20 f_Mo_151 hk1 <| j_icmp_ge d_Mo_read_23 r1 r2 k1 k2
theorem s_Mo_read_26 {G : j_G} {d B S N : Nat} {K : Nat → Option (Nat × Nat)} {M : Nat → Int → Int} {g : Nat → Int → Option Nat} {Q : j_O → j_S → Prop} {a0 : Nat} (hk1 : K a0 = some (0, 8)) (r1 : -2147483648 ≤ (M a0 34) ∧ (M a0 34) ≤ 2147483647 := by omega) (k1 : (M a0 34) ≠ 0 → j_J G jm_Mo_read d B S 40 [jr_ a0] [] (N, K, M, g) Q) (k2 : (M a0 34) = 0 → j_J G jm_Mo_read d B S 33 [jr_ a0] [] (N, K, M, g) Q) : j_J G jm_Mo_read d B S 26 [jr_ a0] [] (N, K, M, g) Q :=
  j_aload_n d_Mo_read_26 rfl <| j_getI d_Mo_read_27 f_Mo_177 hk1 <| j_if_ne d_Mo_read_30 r1 k1 k2
theorem s_Mo_read_33 {G : j_G} {d B S N : Nat} {K : Nat → Option (Nat × Nat)} {M : Nat → Int → Int} {g : Nat → Int → Option Nat} {Q : j_O → j_S → Prop} {a0 : Nat} {q : (Nat → Int → Int) → Prop} (hk1 : K a0 = some (0, 8)) (hC : j_Ct G jm_Mo_readHunk d 0 0 [jr_ a0] (N, K, M, g) (j_pV N K g q)) (k1 : ∀ M', q M' → j_J G jm_Mo_read (d + 1) B S 37 [jr_ a0] [] (N, K, M', g) Q) : j_J G jm_Mo_read (d + 1) B S 33 [jr_ a0] [] (N, K, M, g) Q :=
  j_aload_n d_Mo_read_33 rfl <| j_aVV (as := []) (rest := []) d_Mo_read_34 c_Mo_193 hk1 rfl (Nat.le_of_ble_eq_true rfl) hC k1
theorem s_Mo_read_37 {G : j_G} {d B S N : Nat} {K : Nat → Option (Nat × Nat)} {M : Nat → Int → Int} {g : Nat → Int → Option Nat} {Q : j_O → j_S → Prop} {a0 : Nat}  (k1 : j_J G jm_Mo_read d B S 15 [jr_ a0] [] (N, K, M, g) Q) : j_J G jm_Mo_read d B S 37 [jr_ a0] [] (N, K, M, g) Q :=
  j_goto d_Mo_read_37 k1
theorem s_Mo_read_40 {G : j_G} {d B S N : Nat} {K : Nat → Option (Nat × Nat)} {M : Nat → Int → Int} {g : Nat → Int → Option Nat} {Q : j_O → j_S → Prop} {a0 : Nat} (hk1 : K a0 = some (0, 8)) (r1 : -2147483648 ≤ (M a0 34) ∧ (M a0 34) ≤ 2147483647 := by omega) (k1 : (M a0 34) = 0 → Q (.inl (some (ji_ (-1)))) (N, K, M, g)) (k2 : (M a0 34) ≠ 0 → j_J G jm_Mo_read d B S 47 [jr_ a0] [] (N, K, M, g) Q) : j_J G jm_Mo_read d B S 40 [jr_ a0] [] (N, K, M, g) Q :=
  j_aload_n d_Mo_read_40 rfl <| j_getI d_Mo_read_41 f_Mo_177 hk1 <| j_if_eq d_Mo_read_44 r1 (fun h => j_iconst d_Mo_read_54 <| j_ireturn d_Mo_read_55 rfl <| k1 h) k2
theorem s_Mo_read_47 {G : j_G} {d B S N : Nat} {K : Nat → Option (Nat × Nat)} {M : Nat → Int → Int} {g : Nat → Int → Option Nat} {Q : j_O → j_S → Prop} {a0 : Nat} (hk1 : K a0 = some (0, 8)) (k1 : Q (.inl (some (ji_ (M a0 33)))) (N, K, M, g)) : j_J G jm_Mo_read d B S 47 [jr_ a0] [] (N, K, M, g) Q :=
  j_aload_n d_Mo_read_47 rfl <| j_getI d_Mo_read_48 f_Mo_174 hk1 <| j_goto d_Mo_read_51 (j_ireturn d_Mo_read_55 rfl <| k1)
theorem s_Mo_read_54 {G : j_G} {d B S N : Nat} {K : Nat → Option (Nat × Nat)} {M : Nat → Int → Int} {g : Nat → Int → Option Nat} {Q : j_O → j_S → Prop} {a0 : Nat}  (k1 : Q (.inl (some (ji_ (-1)))) (N, K, M, g)) : j_J G jm_Mo_read d B S 54 [jr_ a0] [] (N, K, M, g) Q :=
  j_iconst d_Mo_read_54 <| (j_ireturn d_Mo_read_55 rfl <| k1)
theorem s_Mo_read_55 {G : j_G} {d B S N : Nat} {K : Nat → Option (Nat × Nat)} {M : Nat → Int → Int} {g : Nat → Int → Option Nat} {Q : j_O → j_S → Prop} {a0 : Nat} {t0 : Int}  (k1 : Q (.inl (some (ji_ t0))) (N, K, M, g)) : j_J G jm_Mo_read d B S 55 [jr_ a0] [ji_ t0] (N, K, M, g) Q :=
  j_ireturn d_Mo_read_55 rfl k1
