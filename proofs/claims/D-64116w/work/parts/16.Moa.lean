/-! decode facts, pool facts and segments: Mo_within, Mo_isLetter, Mo_add, Mo_clear, Mo_size, Mo_line, Mo_allLetters, Mo_take, Mo_compareShort, Mo_await, Mo_partner, Mo_findRanks, Mo_standOut, Mo_compareAll, Mo_compare, Mo_match (printed by gen/mk.py) -/
theorem d_Mo_within_0 : j_D jm_Mo_within 0 (.iload_n 0) 1 1 := ⟨by decide +kernel, rfl⟩
theorem d_Mo_within_1 : j_D jm_Mo_within 1 (.iload_n 1) 1 2 := ⟨by decide +kernel, rfl⟩
theorem d_Mo_within_2 : j_E jm_Mo_within 2 (.if_icmp .lt) 12 5 14 := ⟨by decide +kernel, rfl, by decide⟩
theorem d_Mo_within_5 : j_D jm_Mo_within 5 (.iload_n 0) 1 6 := ⟨by decide +kernel, rfl⟩
theorem d_Mo_within_6 : j_D jm_Mo_within 6 (.iload_n 2) 1 7 := ⟨by decide +kernel, rfl⟩
theorem d_Mo_within_7 : j_E jm_Mo_within 7 (.if_icmp .gt) 7 10 14 := ⟨by decide +kernel, rfl, by decide⟩
theorem d_Mo_within_10 : j_D jm_Mo_within 10 (.iconst 1) 1 11 := ⟨by decide +kernel, rfl⟩
theorem d_Mo_within_11 : j_E jm_Mo_within 11 .goto 4 14 15 := ⟨by decide +kernel, rfl, by decide⟩
theorem d_Mo_within_14 : j_D jm_Mo_within 14 (.iconst 0) 1 15 := ⟨by decide +kernel, rfl⟩
theorem d_Mo_within_15 : j_D jm_Mo_within 15 .ireturn 1 16 := ⟨by decide +kernel, rfl⟩
theorem d_Mo_isLetter_0 : j_D jm_Mo_isLetter 0 (.iload_n 0) 1 1 := ⟨by decide +kernel, rfl⟩
theorem d_Mo_isLetter_1 : j_D jm_Mo_isLetter 1 (.bipush 97) 2 3 := ⟨by decide +kernel, rfl⟩
theorem d_Mo_isLetter_3 : j_D jm_Mo_isLetter 3 (.bipush 122) 2 5 := ⟨by decide +kernel, rfl⟩
theorem d_Mo_isLetter_5 : j_D jm_Mo_isLetter 5 (.invokestatic 88) 3 8 := ⟨by decide +kernel, rfl⟩
theorem d_Mo_isLetter_8 : j_D jm_Mo_isLetter 8 .ireturn 1 9 := ⟨by decide +kernel, rfl⟩
theorem d_Mo_add_0 : j_D jm_Mo_add 0 (.iload_n 1) 1 1 := ⟨by decide +kernel, rfl⟩
theorem d_Mo_add_1 : j_D jm_Mo_add 1 (.iconst 0) 1 2 := ⟨by decide +kernel, rfl⟩
theorem d_Mo_add_2 : j_D jm_Mo_add 2 (.iconst 3) 1 3 := ⟨by decide +kernel, rfl⟩
theorem d_Mo_add_3 : j_D jm_Mo_add 3 (.invokestatic 88) 3 6 := ⟨by decide +kernel, rfl⟩
theorem d_Mo_add_6 : j_E jm_Mo_add 6 (.ifCond .eq) 18 9 24 := ⟨by decide +kernel, rfl, by decide⟩
theorem d_Mo_add_9 : j_D jm_Mo_add 9 (.iload 4) 2 11 := ⟨by decide +kernel, rfl⟩
theorem d_Mo_add_11 : j_D jm_Mo_add 11 (.iconst 1) 1 12 := ⟨by decide +kernel, rfl⟩
theorem d_Mo_add_12 : j_D jm_Mo_add 12 (.bipush 8) 2 14 := ⟨by decide +kernel, rfl⟩
theorem d_Mo_add_14 : j_D jm_Mo_add 14 (.invokestatic 88) 3 17 := ⟨by decide +kernel, rfl⟩
theorem d_Mo_add_17 : j_E jm_Mo_add 17 (.ifCond .eq) 7 20 24 := ⟨by decide +kernel, rfl, by decide⟩
theorem d_Mo_add_20 : j_D jm_Mo_add 20 (.iconst 1) 1 21 := ⟨by decide +kernel, rfl⟩
theorem d_Mo_add_21 : j_E jm_Mo_add 21 .goto 4 24 25 := ⟨by decide +kernel, rfl, by decide⟩
theorem d_Mo_add_24 : j_D jm_Mo_add 24 (.iconst 0) 1 25 := ⟨by decide +kernel, rfl⟩
theorem d_Mo_add_25 : j_D jm_Mo_add 25 (.istore 5) 2 27 := ⟨by decide +kernel, rfl⟩
theorem d_Mo_add_27 : j_D jm_Mo_add 27 (.iconst 0) 1 28 := ⟨by decide +kernel, rfl⟩
theorem d_Mo_add_28 : j_D jm_Mo_add 28 (.istore 6) 2 30 := ⟨by decide +kernel, rfl⟩
theorem d_Mo_add_30 : j_D jm_Mo_add 30 (.iload 6) 2 32 := ⟨by decide +kernel, rfl⟩
theorem d_Mo_add_32 : j_D jm_Mo_add 32 (.iload 4) 2 34 := ⟨by decide +kernel, rfl⟩
theorem d_Mo_add_34 : j_E jm_Mo_add 34 (.if_icmp .ge) 31 37 65 := ⟨by decide +kernel, rfl, by decide⟩
theorem d_Mo_add_37 : j_D jm_Mo_add 37 (.iload 5) 2 39 := ⟨by decide +kernel, rfl⟩
theorem d_Mo_add_39 : j_E jm_Mo_add 39 (.ifCond .eq) 26 42 65 := ⟨by decide +kernel, rfl, by decide⟩
theorem d_Mo_add_42 : j_D jm_Mo_add 42 (.lload_n 2) 1 43 := ⟨by decide +kernel, rfl⟩
theorem d_Mo_add_43 : j_D jm_Mo_add 43 (.bipush 8) 2 45 := ⟨by decide +kernel, rfl⟩
theorem d_Mo_add_45 : j_D jm_Mo_add 45 (.iload 6) 2 47 := ⟨by decide +kernel, rfl⟩
theorem d_Mo_add_47 : j_D jm_Mo_add 47 .imul 1 48 := ⟨by decide +kernel, rfl⟩
theorem d_Mo_add_48 : j_D jm_Mo_add 48 .lshr 1 49 := ⟨by decide +kernel, rfl⟩
theorem d_Mo_add_49 : j_D jm_Mo_add 49 .l2i 1 50 := ⟨by decide +kernel, rfl⟩
theorem d_Mo_add_50 : j_D jm_Mo_add 50 (.sipush 255) 3 53 := ⟨by decide +kernel, rfl⟩
theorem d_Mo_add_53 : j_D jm_Mo_add 53 .iand 1 54 := ⟨by decide +kernel, rfl⟩
theorem d_Mo_add_54 : j_D jm_Mo_add 54 (.invokestatic 92) 3 57 := ⟨by decide +kernel, rfl⟩
theorem d_Mo_add_57 : j_D jm_Mo_add 57 (.istore 5) 2 59 := ⟨by decide +kernel, rfl⟩
theorem d_Mo_add_59 : j_D jm_Mo_add 59 (.iinc 6 1) 3 62 := ⟨by decide +kernel, rfl⟩
theorem d_Mo_add_62 : j_E jm_Mo_add 62 .goto (-32) 65 30 := ⟨by decide +kernel, rfl, by decide⟩
theorem d_Mo_add_65 : j_D jm_Mo_add 65 (.iload 5) 2 67 := ⟨by decide +kernel, rfl⟩
theorem d_Mo_add_67 : j_E jm_Mo_add 67 (.ifCond .ne) 5 70 72 := ⟨by decide +kernel, rfl, by decide⟩
theorem d_Mo_add_70 : j_D jm_Mo_add 70 (.iconst (-1)) 1 71 := ⟨by decide +kernel, rfl⟩
theorem d_Mo_add_71 : j_D jm_Mo_add 71 .ireturn 1 72 := ⟨by decide +kernel, rfl⟩
theorem d_Mo_add_72 : j_D jm_Mo_add 72 (.aload_n 0) 1 73 := ⟨by decide +kernel, rfl⟩
theorem d_Mo_add_73 : j_D jm_Mo_add 73 (.getfield 13) 3 76 := ⟨by decide +kernel, rfl⟩
theorem d_Mo_add_76 : j_D jm_Mo_add 76 (.iload_n 1) 1 77 := ⟨by decide +kernel, rfl⟩
theorem d_Mo_add_77 : j_D jm_Mo_add 77 .iaload 1 78 := ⟨by decide +kernel, rfl⟩
theorem d_Mo_add_78 : j_D jm_Mo_add 78 (.iload 4) 2 80 := ⟨by decide +kernel, rfl⟩
theorem d_Mo_add_80 : j_D jm_Mo_add 80 .iadd 1 81 := ⟨by decide +kernel, rfl⟩
theorem d_Mo_add_81 : j_D jm_Mo_add 81 (.bipush 24) 2 83 := ⟨by decide +kernel, rfl⟩
theorem d_Mo_add_83 : j_E jm_Mo_add 83 (.if_icmp .le) 6 86 89 := ⟨by decide +kernel, rfl, by decide⟩
theorem d_Mo_add_86 : j_D jm_Mo_add 86 (.bipush (-2)) 2 88 := ⟨by decide +kernel, rfl⟩
theorem d_Mo_add_88 : j_D jm_Mo_add 88 .ireturn 1 89 := ⟨by decide +kernel, rfl⟩
theorem d_Mo_add_89 : j_D jm_Mo_add 89 (.iload 4) 2 91 := ⟨by decide +kernel, rfl⟩
theorem d_Mo_add_91 : j_D jm_Mo_add 91 (.iconst 1) 1 92 := ⟨by decide +kernel, rfl⟩
theorem d_Mo_add_92 : j_D jm_Mo_add 92 .isub 1 93 := ⟨by decide +kernel, rfl⟩
theorem d_Mo_add_93 : j_D jm_Mo_add 93 (.istore 6) 2 95 := ⟨by decide +kernel, rfl⟩
theorem d_Mo_add_95 : j_D jm_Mo_add 95 (.iload 6) 2 97 := ⟨by decide +kernel, rfl⟩
theorem d_Mo_add_97 : j_E jm_Mo_add 97 (.ifCond .lt) 51 100 148 := ⟨by decide +kernel, rfl, by decide⟩
theorem d_Mo_add_100 : j_D jm_Mo_add 100 (.aload_n 0) 1 101 := ⟨by decide +kernel, rfl⟩
theorem d_Mo_add_101 : j_D jm_Mo_add 101 (.getfield 7) 3 104 := ⟨by decide +kernel, rfl⟩
theorem d_Mo_add_104 : j_D jm_Mo_add 104 (.bipush 24) 2 106 := ⟨by decide +kernel, rfl⟩
theorem d_Mo_add_106 : j_D jm_Mo_add 106 (.iload_n 1) 1 107 := ⟨by decide +kernel, rfl⟩
theorem d_Mo_add_107 : j_D jm_Mo_add 107 .imul 1 108 := ⟨by decide +kernel, rfl⟩
theorem d_Mo_add_108 : j_D jm_Mo_add 108 (.aload_n 0) 1 109 := ⟨by decide +kernel, rfl⟩
theorem d_Mo_add_109 : j_D jm_Mo_add 109 (.getfield 13) 3 112 := ⟨by decide +kernel, rfl⟩
theorem d_Mo_add_112 : j_D jm_Mo_add 112 (.iload_n 1) 1 113 := ⟨by decide +kernel, rfl⟩
theorem d_Mo_add_113 : j_D jm_Mo_add 113 .iaload 1 114 := ⟨by decide +kernel, rfl⟩
theorem d_Mo_add_114 : j_D jm_Mo_add 114 .iadd 1 115 := ⟨by decide +kernel, rfl⟩
theorem d_Mo_add_115 : j_D jm_Mo_add 115 (.lload_n 2) 1 116 := ⟨by decide +kernel, rfl⟩
theorem d_Mo_add_116 : j_D jm_Mo_add 116 (.bipush 8) 2 118 := ⟨by decide +kernel, rfl⟩
theorem d_Mo_add_118 : j_D jm_Mo_add 118 (.iload 6) 2 120 := ⟨by decide +kernel, rfl⟩
theorem d_Mo_add_120 : j_D jm_Mo_add 120 .imul 1 121 := ⟨by decide +kernel, rfl⟩
theorem d_Mo_add_121 : j_D jm_Mo_add 121 .lshr 1 122 := ⟨by decide +kernel, rfl⟩
theorem d_Mo_add_122 : j_D jm_Mo_add 122 .l2i 1 123 := ⟨by decide +kernel, rfl⟩
theorem d_Mo_add_123 : j_D jm_Mo_add 123 (.sipush 255) 3 126 := ⟨by decide +kernel, rfl⟩
theorem d_Mo_add_126 : j_D jm_Mo_add 126 .iand 1 127 := ⟨by decide +kernel, rfl⟩
theorem d_Mo_add_127 : j_D jm_Mo_add 127 .iastore 1 128 := ⟨by decide +kernel, rfl⟩
theorem d_Mo_add_128 : j_D jm_Mo_add 128 (.aload_n 0) 1 129 := ⟨by decide +kernel, rfl⟩
theorem d_Mo_add_129 : j_D jm_Mo_add 129 (.getfield 13) 3 132 := ⟨by decide +kernel, rfl⟩
theorem d_Mo_add_132 : j_D jm_Mo_add 132 (.iload_n 1) 1 133 := ⟨by decide +kernel, rfl⟩
theorem d_Mo_add_133 : j_D jm_Mo_add 133 (.aload_n 0) 1 134 := ⟨by decide +kernel, rfl⟩
theorem d_Mo_add_134 : j_D jm_Mo_add 134 (.getfield 13) 3 137 := ⟨by decide +kernel, rfl⟩
theorem d_Mo_add_137 : j_D jm_Mo_add 137 (.iload_n 1) 1 138 := ⟨by decide +kernel, rfl⟩
theorem d_Mo_add_138 : j_D jm_Mo_add 138 .iaload 1 139 := ⟨by decide +kernel, rfl⟩
theorem d_Mo_add_139 : j_D jm_Mo_add 139 (.iconst 1) 1 140 := ⟨by decide +kernel, rfl⟩
theorem d_Mo_add_140 : j_D jm_Mo_add 140 .iadd 1 141 := ⟨by decide +kernel, rfl⟩
theorem d_Mo_add_141 : j_D jm_Mo_add 141 .iastore 1 142 := ⟨by decide +kernel, rfl⟩
theorem d_Mo_add_142 : j_D jm_Mo_add 142 (.iinc 6 (-1)) 3 145 := ⟨by decide +kernel, rfl⟩
theorem d_Mo_add_145 : j_E jm_Mo_add 145 .goto (-50) 148 95 := ⟨by decide +kernel, rfl, by decide⟩
theorem d_Mo_add_148 : j_D jm_Mo_add 148 (.aload_n 0) 1 149 := ⟨by decide +kernel, rfl⟩
theorem d_Mo_add_149 : j_D jm_Mo_add 149 (.getfield 13) 3 152 := ⟨by decide +kernel, rfl⟩
theorem d_Mo_add_152 : j_D jm_Mo_add 152 (.iload_n 1) 1 153 := ⟨by decide +kernel, rfl⟩
theorem d_Mo_add_153 : j_D jm_Mo_add 153 .iaload 1 154 := ⟨by decide +kernel, rfl⟩
theorem d_Mo_add_154 : j_D jm_Mo_add 154 .ireturn 1 155 := ⟨by decide +kernel, rfl⟩
theorem d_Mo_clear_0 : j_D jm_Mo_clear 0 (.iload_n 1) 1 1 := ⟨by decide +kernel, rfl⟩
theorem d_Mo_clear_1 : j_D jm_Mo_clear 1 (.iconst 0) 1 2 := ⟨by decide +kernel, rfl⟩
theorem d_Mo_clear_2 : j_D jm_Mo_clear 2 (.iconst 3) 1 3 := ⟨by decide +kernel, rfl⟩
theorem d_Mo_clear_3 : j_D jm_Mo_clear 3 (.invokestatic 88) 3 6 := ⟨by decide +kernel, rfl⟩
theorem d_Mo_clear_6 : j_E jm_Mo_clear 6 (.ifCond .ne) 5 9 11 := ⟨by decide +kernel, rfl, by decide⟩
theorem d_Mo_clear_9 : j_D jm_Mo_clear 9 (.iconst (-1)) 1 10 := ⟨by decide +kernel, rfl⟩
theorem d_Mo_clear_10 : j_D jm_Mo_clear 10 .ireturn 1 11 := ⟨by decide +kernel, rfl⟩
theorem d_Mo_clear_11 : j_D jm_Mo_clear 11 (.aload_n 0) 1 12 := ⟨by decide +kernel, rfl⟩
theorem d_Mo_clear_12 : j_D jm_Mo_clear 12 (.getfield 13) 3 15 := ⟨by decide +kernel, rfl⟩
theorem d_Mo_clear_15 : j_D jm_Mo_clear 15 (.iload_n 1) 1 16 := ⟨by decide +kernel, rfl⟩
theorem d_Mo_clear_16 : j_D jm_Mo_clear 16 .iaload 1 17 := ⟨by decide +kernel, rfl⟩
theorem d_Mo_clear_17 : j_D jm_Mo_clear 17 (.istore_n 2) 1 18 := ⟨by decide +kernel, rfl⟩
theorem d_Mo_clear_18 : j_D jm_Mo_clear 18 (.aload_n 0) 1 19 := ⟨by decide +kernel, rfl⟩
theorem d_Mo_clear_19 : j_D jm_Mo_clear 19 (.getfield 13) 3 22 := ⟨by decide +kernel, rfl⟩
theorem d_Mo_clear_22 : j_D jm_Mo_clear 22 (.iload_n 1) 1 23 := ⟨by decide +kernel, rfl⟩
theorem d_Mo_clear_23 : j_D jm_Mo_clear 23 (.iconst 0) 1 24 := ⟨by decide +kernel, rfl⟩
theorem d_Mo_clear_24 : j_D jm_Mo_clear 24 .iastore 1 25 := ⟨by decide +kernel, rfl⟩
theorem d_Mo_clear_25 : j_D jm_Mo_clear 25 (.iload_n 2) 1 26 := ⟨by decide +kernel, rfl⟩
theorem d_Mo_clear_26 : j_D jm_Mo_clear 26 .ireturn 1 27 := ⟨by decide +kernel, rfl⟩
theorem d_Mo_size_0 : j_D jm_Mo_size 0 (.iload_n 1) 1 1 := ⟨by decide +kernel, rfl⟩
theorem d_Mo_size_1 : j_D jm_Mo_size 1 (.iconst 0) 1 2 := ⟨by decide +kernel, rfl⟩
theorem d_Mo_size_2 : j_D jm_Mo_size 2 (.iconst 3) 1 3 := ⟨by decide +kernel, rfl⟩
theorem d_Mo_size_3 : j_D jm_Mo_size 3 (.invokestatic 88) 3 6 := ⟨by decide +kernel, rfl⟩
theorem d_Mo_size_6 : j_E jm_Mo_size 6 (.ifCond .eq) 12 9 18 := ⟨by decide +kernel, rfl, by decide⟩
theorem d_Mo_size_9 : j_D jm_Mo_size 9 (.aload_n 0) 1 10 := ⟨by decide +kernel, rfl⟩
theorem d_Mo_size_10 : j_D jm_Mo_size 10 (.getfield 13) 3 13 := ⟨by decide +kernel, rfl⟩
theorem d_Mo_size_13 : j_D jm_Mo_size 13 (.iload_n 1) 1 14 := ⟨by decide +kernel, rfl⟩
theorem d_Mo_size_14 : j_D jm_Mo_size 14 .iaload 1 15 := ⟨by decide +kernel, rfl⟩
theorem d_Mo_size_15 : j_E jm_Mo_size 15 .goto 4 18 19 := ⟨by decide +kernel, rfl, by decide⟩
theorem d_Mo_size_18 : j_D jm_Mo_size 18 (.iconst (-1)) 1 19 := ⟨by decide +kernel, rfl⟩
theorem d_Mo_size_19 : j_D jm_Mo_size 19 .ireturn 1 20 := ⟨by decide +kernel, rfl⟩
theorem d_Mo_line_0 : j_D jm_Mo_line 0 (.iload_n 1) 1 1 := ⟨by decide +kernel, rfl⟩
theorem d_Mo_line_1 : j_D jm_Mo_line 1 (.iconst 0) 1 2 := ⟨by decide +kernel, rfl⟩
theorem d_Mo_line_2 : j_D jm_Mo_line 2 (.iconst 3) 1 3 := ⟨by decide +kernel, rfl⟩
theorem d_Mo_line_3 : j_D jm_Mo_line 3 (.invokestatic 88) 3 6 := ⟨by decide +kernel, rfl⟩
theorem d_Mo_line_6 : j_E jm_Mo_line 6 (.ifCond .ne) 7 9 13 := ⟨by decide +kernel, rfl, by decide⟩
theorem d_Mo_line_9 : j_D jm_Mo_line 9 (.iconst (-1)) 1 10 := ⟨by decide +kernel, rfl⟩
theorem d_Mo_line_10 : j_E jm_Mo_line 10 .goto 35 13 45 := ⟨by decide +kernel, rfl, by decide⟩
theorem d_Mo_line_13 : j_D jm_Mo_line 13 (.iload_n 2) 1 14 := ⟨by decide +kernel, rfl⟩
theorem d_Mo_line_14 : j_D jm_Mo_line 14 (.iconst 0) 1 15 := ⟨by decide +kernel, rfl⟩
theorem d_Mo_line_15 : j_D jm_Mo_line 15 (.aload_n 0) 1 16 := ⟨by decide +kernel, rfl⟩
theorem d_Mo_line_16 : j_D jm_Mo_line 16 (.getfield 13) 3 19 := ⟨by decide +kernel, rfl⟩
theorem d_Mo_line_19 : j_D jm_Mo_line 19 (.iload_n 1) 1 20 := ⟨by decide +kernel, rfl⟩
theorem d_Mo_line_20 : j_D jm_Mo_line 20 .iaload 1 21 := ⟨by decide +kernel, rfl⟩
theorem d_Mo_line_21 : j_D jm_Mo_line 21 (.iconst 1) 1 22 := ⟨by decide +kernel, rfl⟩
theorem d_Mo_line_22 : j_D jm_Mo_line 22 .isub 1 23 := ⟨by decide +kernel, rfl⟩
theorem d_Mo_line_23 : j_D jm_Mo_line 23 (.invokestatic 88) 3 26 := ⟨by decide +kernel, rfl⟩
theorem d_Mo_line_26 : j_E jm_Mo_line 26 (.ifCond .eq) 17 29 43 := ⟨by decide +kernel, rfl, by decide⟩
theorem d_Mo_line_29 : j_D jm_Mo_line 29 (.aload_n 0) 1 30 := ⟨by decide +kernel, rfl⟩
theorem d_Mo_line_30 : j_D jm_Mo_line 30 (.getfield 7) 3 33 := ⟨by decide +kernel, rfl⟩
theorem d_Mo_line_33 : j_D jm_Mo_line 33 (.bipush 24) 2 35 := ⟨by decide +kernel, rfl⟩
theorem d_Mo_line_35 : j_D jm_Mo_line 35 (.iload_n 1) 1 36 := ⟨by decide +kernel, rfl⟩
theorem d_Mo_line_36 : j_D jm_Mo_line 36 .imul 1 37 := ⟨by decide +kernel, rfl⟩
theorem d_Mo_line_37 : j_D jm_Mo_line 37 (.iload_n 2) 1 38 := ⟨by decide +kernel, rfl⟩
theorem d_Mo_line_38 : j_D jm_Mo_line 38 .iadd 1 39 := ⟨by decide +kernel, rfl⟩
theorem d_Mo_line_39 : j_D jm_Mo_line 39 .iaload 1 40 := ⟨by decide +kernel, rfl⟩
theorem d_Mo_line_40 : j_E jm_Mo_line 40 .goto 5 43 45 := ⟨by decide +kernel, rfl, by decide⟩
theorem d_Mo_line_43 : j_D jm_Mo_line 43 (.bipush (-3)) 2 45 := ⟨by decide +kernel, rfl⟩
theorem d_Mo_line_45 : j_D jm_Mo_line 45 .ireturn 1 46 := ⟨by decide +kernel, rfl⟩
theorem d_Mo_allLetters_0 : j_D jm_Mo_allLetters 0 (.iconst 1) 1 1 := ⟨by decide +kernel, rfl⟩
theorem d_Mo_allLetters_1 : j_D jm_Mo_allLetters 1 (.istore_n 2) 1 2 := ⟨by decide +kernel, rfl⟩
theorem d_Mo_allLetters_2 : j_D jm_Mo_allLetters 2 (.iconst 0) 1 3 := ⟨by decide +kernel, rfl⟩
theorem d_Mo_allLetters_3 : j_D jm_Mo_allLetters 3 (.istore_n 3) 1 4 := ⟨by decide +kernel, rfl⟩
theorem d_Mo_allLetters_4 : j_D jm_Mo_allLetters 4 (.iload_n 3) 1 5 := ⟨by decide +kernel, rfl⟩
theorem d_Mo_allLetters_5 : j_D jm_Mo_allLetters 5 (.aload_n 0) 1 6 := ⟨by decide +kernel, rfl⟩
theorem d_Mo_allLetters_6 : j_D jm_Mo_allLetters 6 (.getfield 13) 3 9 := ⟨by decide +kernel, rfl⟩
theorem d_Mo_allLetters_9 : j_D jm_Mo_allLetters 9 (.iload_n 1) 1 10 := ⟨by decide +kernel, rfl⟩
theorem d_Mo_allLetters_10 : j_D jm_Mo_allLetters 10 .iaload 1 11 := ⟨by decide +kernel, rfl⟩
theorem d_Mo_allLetters_11 : j_E jm_Mo_allLetters 11 (.if_icmp .ge) 36 14 47 := ⟨by decide +kernel, rfl, by decide⟩
theorem d_Mo_allLetters_14 : j_D jm_Mo_allLetters 14 (.iload_n 2) 1 15 := ⟨by decide +kernel, rfl⟩
theorem d_Mo_allLetters_15 : j_E jm_Mo_allLetters 15 (.ifCond .eq) 24 18 39 := ⟨by decide +kernel, rfl, by decide⟩
theorem d_Mo_allLetters_18 : j_D jm_Mo_allLetters 18 (.aload_n 0) 1 19 := ⟨by decide +kernel, rfl⟩
theorem d_Mo_allLetters_19 : j_D jm_Mo_allLetters 19 (.getfield 7) 3 22 := ⟨by decide +kernel, rfl⟩
theorem d_Mo_allLetters_22 : j_D jm_Mo_allLetters 22 (.bipush 24) 2 24 := ⟨by decide +kernel, rfl⟩
theorem d_Mo_allLetters_24 : j_D jm_Mo_allLetters 24 (.iload_n 1) 1 25 := ⟨by decide +kernel, rfl⟩
theorem d_Mo_allLetters_25 : j_D jm_Mo_allLetters 25 .imul 1 26 := ⟨by decide +kernel, rfl⟩
theorem d_Mo_allLetters_26 : j_D jm_Mo_allLetters 26 (.iload_n 3) 1 27 := ⟨by decide +kernel, rfl⟩
theorem d_Mo_allLetters_27 : j_D jm_Mo_allLetters 27 .iadd 1 28 := ⟨by decide +kernel, rfl⟩
theorem d_Mo_allLetters_28 : j_D jm_Mo_allLetters 28 .iaload 1 29 := ⟨by decide +kernel, rfl⟩
theorem d_Mo_allLetters_29 : j_D jm_Mo_allLetters 29 (.invokestatic 92) 3 32 := ⟨by decide +kernel, rfl⟩
theorem d_Mo_allLetters_32 : j_E jm_Mo_allLetters 32 (.ifCond .eq) 7 35 39 := ⟨by decide +kernel, rfl, by decide⟩
theorem d_Mo_allLetters_35 : j_D jm_Mo_allLetters 35 (.iconst 1) 1 36 := ⟨by decide +kernel, rfl⟩
theorem d_Mo_allLetters_36 : j_E jm_Mo_allLetters 36 .goto 4 39 40 := ⟨by decide +kernel, rfl, by decide⟩
theorem d_Mo_allLetters_39 : j_D jm_Mo_allLetters 39 (.iconst 0) 1 40 := ⟨by decide +kernel, rfl⟩
theorem d_Mo_allLetters_40 : j_D jm_Mo_allLetters 40 (.istore_n 2) 1 41 := ⟨by decide +kernel, rfl⟩
theorem d_Mo_allLetters_41 : j_D jm_Mo_allLetters 41 (.iinc 3 1) 3 44 := ⟨by decide +kernel, rfl⟩
theorem d_Mo_allLetters_44 : j_E jm_Mo_allLetters 44 .goto (-40) 47 4 := ⟨by decide +kernel, rfl, by decide⟩
theorem d_Mo_allLetters_47 : j_D jm_Mo_allLetters 47 (.iload_n 2) 1 48 := ⟨by decide +kernel, rfl⟩
theorem d_Mo_allLetters_48 : j_D jm_Mo_allLetters 48 .ireturn 1 49 := ⟨by decide +kernel, rfl⟩
theorem d_Mo_take_0 : j_D jm_Mo_take 0 (.aload_n 0) 1 1 := ⟨by decide +kernel, rfl⟩
theorem d_Mo_take_1 : j_D jm_Mo_take 1 (.aload_n 0) 1 2 := ⟨by decide +kernel, rfl⟩
theorem d_Mo_take_2 : j_D jm_Mo_take 2 (.getfield 13) 3 5 := ⟨by decide +kernel, rfl⟩
theorem d_Mo_take_5 : j_D jm_Mo_take 5 (.iload_n 1) 1 6 := ⟨by decide +kernel, rfl⟩
theorem d_Mo_take_6 : j_D jm_Mo_take 6 .iaload 1 7 := ⟨by decide +kernel, rfl⟩
theorem d_Mo_take_7 : j_D jm_Mo_take 7 (.putfield 96) 3 10 := ⟨by decide +kernel, rfl⟩
theorem d_Mo_take_10 : j_D jm_Mo_take 10 (.aload_n 0) 1 11 := ⟨by decide +kernel, rfl⟩
theorem d_Mo_take_11 : j_D jm_Mo_take 11 (.aload_n 0) 1 12 := ⟨by decide +kernel, rfl⟩
theorem d_Mo_take_12 : j_D jm_Mo_take 12 (.getfield 13) 3 15 := ⟨by decide +kernel, rfl⟩
theorem d_Mo_take_15 : j_D jm_Mo_take 15 (.iload_n 2) 1 16 := ⟨by decide +kernel, rfl⟩
theorem d_Mo_take_16 : j_D jm_Mo_take 16 .iaload 1 17 := ⟨by decide +kernel, rfl⟩
theorem d_Mo_take_17 : j_D jm_Mo_take 17 (.putfield 100) 3 20 := ⟨by decide +kernel, rfl⟩
theorem d_Mo_take_20 : j_D jm_Mo_take 20 (.iconst 0) 1 21 := ⟨by decide +kernel, rfl⟩
theorem d_Mo_take_21 : j_D jm_Mo_take 21 (.istore_n 3) 1 22 := ⟨by decide +kernel, rfl⟩
theorem d_Mo_take_22 : j_D jm_Mo_take 22 (.iload_n 3) 1 23 := ⟨by decide +kernel, rfl⟩
theorem d_Mo_take_23 : j_D jm_Mo_take 23 (.aload_n 0) 1 24 := ⟨by decide +kernel, rfl⟩
theorem d_Mo_take_24 : j_D jm_Mo_take 24 (.getfield 96) 3 27 := ⟨by decide +kernel, rfl⟩
theorem d_Mo_take_27 : j_E jm_Mo_take 27 (.if_icmp .ge) 33 30 60 := ⟨by decide +kernel, rfl, by decide⟩
theorem d_Mo_take_30 : j_D jm_Mo_take 30 (.aload_n 0) 1 31 := ⟨by decide +kernel, rfl⟩
theorem d_Mo_take_31 : j_D jm_Mo_take 31 (.getfield 16) 3 34 := ⟨by decide +kernel, rfl⟩
theorem d_Mo_take_34 : j_D jm_Mo_take 34 (.iload_n 3) 1 35 := ⟨by decide +kernel, rfl⟩
theorem d_Mo_take_35 : j_D jm_Mo_take 35 (.aload_n 0) 1 36 := ⟨by decide +kernel, rfl⟩
theorem d_Mo_take_36 : j_D jm_Mo_take 36 (.getfield 7) 3 39 := ⟨by decide +kernel, rfl⟩
theorem d_Mo_take_39 : j_D jm_Mo_take 39 (.bipush 24) 2 41 := ⟨by decide +kernel, rfl⟩
theorem d_Mo_take_41 : j_D jm_Mo_take 41 (.iload_n 1) 1 42 := ⟨by decide +kernel, rfl⟩
theorem d_Mo_take_42 : j_D jm_Mo_take 42 .imul 1 43 := ⟨by decide +kernel, rfl⟩
theorem d_Mo_take_43 : j_D jm_Mo_take 43 (.iload_n 3) 1 44 := ⟨by decide +kernel, rfl⟩
theorem d_Mo_take_44 : j_D jm_Mo_take 44 .iadd 1 45 := ⟨by decide +kernel, rfl⟩
theorem d_Mo_take_45 : j_D jm_Mo_take 45 .iaload 1 46 := ⟨by decide +kernel, rfl⟩
theorem d_Mo_take_46 : j_D jm_Mo_take 46 .iastore 1 47 := ⟨by decide +kernel, rfl⟩
theorem d_Mo_take_47 : j_D jm_Mo_take 47 (.aload_n 0) 1 48 := ⟨by decide +kernel, rfl⟩
theorem d_Mo_take_48 : j_D jm_Mo_take 48 (.getfield 22) 3 51 := ⟨by decide +kernel, rfl⟩
theorem d_Mo_take_51 : j_D jm_Mo_take 51 (.iload_n 3) 1 52 := ⟨by decide +kernel, rfl⟩
theorem d_Mo_take_52 : j_D jm_Mo_take 52 (.iconst (-1)) 1 53 := ⟨by decide +kernel, rfl⟩
theorem d_Mo_take_53 : j_D jm_Mo_take 53 .iastore 1 54 := ⟨by decide +kernel, rfl⟩
theorem d_Mo_take_54 : j_D jm_Mo_take 54 (.iinc 3 1) 3 57 := ⟨by decide +kernel, rfl⟩
theorem d_Mo_take_57 : j_E jm_Mo_take 57 .goto (-35) 60 22 := ⟨by decide +kernel, rfl, by decide⟩
theorem d_Mo_take_60 : j_D jm_Mo_take 60 (.iconst 0) 1 61 := ⟨by decide +kernel, rfl⟩
theorem d_Mo_take_61 : j_D jm_Mo_take 61 (.istore_n 3) 1 62 := ⟨by decide +kernel, rfl⟩
theorem d_Mo_take_62 : j_D jm_Mo_take 62 (.iload_n 3) 1 63 := ⟨by decide +kernel, rfl⟩
theorem d_Mo_take_63 : j_D jm_Mo_take 63 (.aload_n 0) 1 64 := ⟨by decide +kernel, rfl⟩
theorem d_Mo_take_64 : j_D jm_Mo_take 64 (.getfield 100) 3 67 := ⟨by decide +kernel, rfl⟩
theorem d_Mo_take_67 : j_E jm_Mo_take 67 (.if_icmp .ge) 26 70 93 := ⟨by decide +kernel, rfl, by decide⟩
theorem d_Mo_take_70 : j_D jm_Mo_take 70 (.aload_n 0) 1 71 := ⟨by decide +kernel, rfl⟩
theorem d_Mo_take_71 : j_D jm_Mo_take 71 (.getfield 19) 3 74 := ⟨by decide +kernel, rfl⟩
theorem d_Mo_take_74 : j_D jm_Mo_take 74 (.iload_n 3) 1 75 := ⟨by decide +kernel, rfl⟩
theorem d_Mo_take_75 : j_D jm_Mo_take 75 (.aload_n 0) 1 76 := ⟨by decide +kernel, rfl⟩
theorem d_Mo_take_76 : j_D jm_Mo_take 76 (.getfield 7) 3 79 := ⟨by decide +kernel, rfl⟩
theorem d_Mo_take_79 : j_D jm_Mo_take 79 (.bipush 24) 2 81 := ⟨by decide +kernel, rfl⟩
theorem d_Mo_take_81 : j_D jm_Mo_take 81 (.iload_n 2) 1 82 := ⟨by decide +kernel, rfl⟩
theorem d_Mo_take_82 : j_D jm_Mo_take 82 .imul 1 83 := ⟨by decide +kernel, rfl⟩
theorem d_Mo_take_83 : j_D jm_Mo_take 83 (.iload_n 3) 1 84 := ⟨by decide +kernel, rfl⟩
theorem d_Mo_take_84 : j_D jm_Mo_take 84 .iadd 1 85 := ⟨by decide +kernel, rfl⟩
theorem d_Mo_take_85 : j_D jm_Mo_take 85 .iaload 1 86 := ⟨by decide +kernel, rfl⟩
theorem d_Mo_take_86 : j_D jm_Mo_take 86 .iastore 1 87 := ⟨by decide +kernel, rfl⟩
theorem d_Mo_take_87 : j_D jm_Mo_take 87 (.iinc 3 1) 3 90 := ⟨by decide +kernel, rfl⟩
theorem d_Mo_take_90 : j_E jm_Mo_take 90 .goto (-28) 93 62 := ⟨by decide +kernel, rfl, by decide⟩
theorem d_Mo_take_93 : j_D jm_Mo_take 93 .return_ 1 94 := ⟨by decide +kernel, rfl⟩
theorem d_Mo_compareShort_0 : j_D jm_Mo_compareShort 0 (.iload_n 2) 1 1 := ⟨by decide +kernel, rfl⟩
theorem d_Mo_compareShort_1 : j_D jm_Mo_compareShort 1 (.istore 5) 2 3 := ⟨by decide +kernel, rfl⟩
theorem d_Mo_compareShort_3 : j_D jm_Mo_compareShort 3 (.iload 5) 2 5 := ⟨by decide +kernel, rfl⟩
theorem d_Mo_compareShort_5 : j_D jm_Mo_compareShort 5 (.iload_n 1) 1 6 := ⟨by decide +kernel, rfl⟩
theorem d_Mo_compareShort_6 : j_E jm_Mo_compareShort 6 (.if_icmp .lt) 164 9 170 := ⟨by decide +kernel, rfl, by decide⟩
theorem d_Mo_compareShort_9 : j_D jm_Mo_compareShort 9 (.iload 4) 2 11 := ⟨by decide +kernel, rfl⟩
theorem d_Mo_compareShort_11 : j_D jm_Mo_compareShort 11 (.istore 6) 2 13 := ⟨by decide +kernel, rfl⟩
theorem d_Mo_compareShort_13 : j_D jm_Mo_compareShort 13 (.iload 6) 2 15 := ⟨by decide +kernel, rfl⟩
theorem d_Mo_compareShort_15 : j_D jm_Mo_compareShort 15 (.iload_n 3) 1 16 := ⟨by decide +kernel, rfl⟩
theorem d_Mo_compareShort_16 : j_E jm_Mo_compareShort 16 (.if_icmp .lt) 148 19 164 := ⟨by decide +kernel, rfl, by decide⟩
theorem d_Mo_compareShort_19 : j_D jm_Mo_compareShort 19 (.iconst 0) 1 20 := ⟨by decide +kernel, rfl⟩
theorem d_Mo_compareShort_20 : j_D jm_Mo_compareShort 20 (.istore 7) 2 22 := ⟨by decide +kernel, rfl⟩
theorem d_Mo_compareShort_22 : j_D jm_Mo_compareShort 22 (.iload 5) 2 24 := ⟨by decide +kernel, rfl⟩
theorem d_Mo_compareShort_24 : j_D jm_Mo_compareShort 24 (.iload_n 2) 1 25 := ⟨by decide +kernel, rfl⟩
theorem d_Mo_compareShort_25 : j_E jm_Mo_compareShort 25 (.if_icmp .ge) 118 28 143 := ⟨by decide +kernel, rfl, by decide⟩
theorem d_Mo_compareShort_28 : j_D jm_Mo_compareShort 28 (.iload 6) 2 30 := ⟨by decide +kernel, rfl⟩
theorem d_Mo_compareShort_30 : j_D jm_Mo_compareShort 30 (.iload 4) 2 32 := ⟨by decide +kernel, rfl⟩
theorem d_Mo_compareShort_32 : j_E jm_Mo_compareShort 32 (.if_icmp .ge) 111 35 143 := ⟨by decide +kernel, rfl, by decide⟩
theorem d_Mo_compareShort_35 : j_D jm_Mo_compareShort 35 (.aload_n 0) 1 36 := ⟨by decide +kernel, rfl⟩
theorem d_Mo_compareShort_36 : j_D jm_Mo_compareShort 36 (.getfield 25) 3 39 := ⟨by decide +kernel, rfl⟩
theorem d_Mo_compareShort_39 : j_D jm_Mo_compareShort 39 (.bipush 25) 2 41 := ⟨by decide +kernel, rfl⟩
theorem d_Mo_compareShort_41 : j_D jm_Mo_compareShort 41 (.iload 5) 2 43 := ⟨by decide +kernel, rfl⟩
theorem d_Mo_compareShort_43 : j_D jm_Mo_compareShort 43 .imul 1 44 := ⟨by decide +kernel, rfl⟩
theorem d_Mo_compareShort_44 : j_D jm_Mo_compareShort 44 (.bipush 25) 2 46 := ⟨by decide +kernel, rfl⟩
theorem d_Mo_compareShort_46 : j_D jm_Mo_compareShort 46 .iadd 1 47 := ⟨by decide +kernel, rfl⟩
theorem d_Mo_compareShort_47 : j_D jm_Mo_compareShort 47 (.iload 6) 2 49 := ⟨by decide +kernel, rfl⟩
theorem d_Mo_compareShort_49 : j_D jm_Mo_compareShort 49 .iadd 1 50 := ⟨by decide +kernel, rfl⟩
theorem d_Mo_compareShort_50 : j_D jm_Mo_compareShort 50 .iaload 1 51 := ⟨by decide +kernel, rfl⟩
theorem d_Mo_compareShort_51 : j_D jm_Mo_compareShort 51 (.istore 8) 2 53 := ⟨by decide +kernel, rfl⟩
theorem d_Mo_compareShort_53 : j_D jm_Mo_compareShort 53 (.aload_n 0) 1 54 := ⟨by decide +kernel, rfl⟩
theorem d_Mo_compareShort_54 : j_D jm_Mo_compareShort 54 (.getfield 25) 3 57 := ⟨by decide +kernel, rfl⟩
theorem d_Mo_compareShort_57 : j_D jm_Mo_compareShort 57 (.bipush 25) 2 59 := ⟨by decide +kernel, rfl⟩
theorem d_Mo_compareShort_59 : j_D jm_Mo_compareShort 59 (.iload 5) 2 61 := ⟨by decide +kernel, rfl⟩
theorem d_Mo_compareShort_61 : j_D jm_Mo_compareShort 61 .imul 1 62 := ⟨by decide +kernel, rfl⟩
theorem d_Mo_compareShort_62 : j_D jm_Mo_compareShort 62 (.iload 6) 2 64 := ⟨by decide +kernel, rfl⟩
theorem d_Mo_compareShort_64 : j_D jm_Mo_compareShort 64 .iadd 1 65 := ⟨by decide +kernel, rfl⟩
theorem d_Mo_compareShort_65 : j_D jm_Mo_compareShort 65 (.iconst 1) 1 66 := ⟨by decide +kernel, rfl⟩
theorem d_Mo_compareShort_66 : j_D jm_Mo_compareShort 66 .iadd 1 67 := ⟨by decide +kernel, rfl⟩
theorem d_Mo_compareShort_67 : j_D jm_Mo_compareShort 67 .iaload 1 68 := ⟨by decide +kernel, rfl⟩
theorem d_Mo_compareShort_68 : j_D jm_Mo_compareShort 68 (.istore 9) 2 70 := ⟨by decide +kernel, rfl⟩
theorem d_Mo_compareShort_70 : j_D jm_Mo_compareShort 70 (.aload_n 0) 1 71 := ⟨by decide +kernel, rfl⟩
theorem d_Mo_compareShort_71 : j_D jm_Mo_compareShort 71 (.getfield 16) 3 74 := ⟨by decide +kernel, rfl⟩
theorem d_Mo_compareShort_74 : j_D jm_Mo_compareShort 74 (.iload 5) 2 76 := ⟨by decide +kernel, rfl⟩
theorem d_Mo_compareShort_76 : j_D jm_Mo_compareShort 76 .iaload 1 77 := ⟨by decide +kernel, rfl⟩
theorem d_Mo_compareShort_77 : j_D jm_Mo_compareShort 77 (.aload_n 0) 1 78 := ⟨by decide +kernel, rfl⟩
theorem d_Mo_compareShort_78 : j_D jm_Mo_compareShort 78 (.getfield 19) 3 81 := ⟨by decide +kernel, rfl⟩
theorem d_Mo_compareShort_81 : j_D jm_Mo_compareShort 81 (.iload 6) 2 83 := ⟨by decide +kernel, rfl⟩
theorem d_Mo_compareShort_83 : j_D jm_Mo_compareShort 83 .iaload 1 84 := ⟨by decide +kernel, rfl⟩
theorem d_Mo_compareShort_84 : j_E jm_Mo_compareShort 84 (.if_icmp .ne) 24 87 108 := ⟨by decide +kernel, rfl, by decide⟩
theorem d_Mo_compareShort_87 : j_D jm_Mo_compareShort 87 (.aload_n 0) 1 88 := ⟨by decide +kernel, rfl⟩
theorem d_Mo_compareShort_88 : j_D jm_Mo_compareShort 88 (.getfield 25) 3 91 := ⟨by decide +kernel, rfl⟩
theorem d_Mo_compareShort_91 : j_D jm_Mo_compareShort 91 (.bipush 25) 2 93 := ⟨by decide +kernel, rfl⟩
theorem d_Mo_compareShort_93 : j_D jm_Mo_compareShort 93 (.iload 5) 2 95 := ⟨by decide +kernel, rfl⟩
theorem d_Mo_compareShort_95 : j_D jm_Mo_compareShort 95 .imul 1 96 := ⟨by decide +kernel, rfl⟩
theorem d_Mo_compareShort_96 : j_D jm_Mo_compareShort 96 (.bipush 26) 2 98 := ⟨by decide +kernel, rfl⟩
theorem d_Mo_compareShort_98 : j_D jm_Mo_compareShort 98 .iadd 1 99 := ⟨by decide +kernel, rfl⟩
theorem d_Mo_compareShort_99 : j_D jm_Mo_compareShort 99 (.iload 6) 2 101 := ⟨by decide +kernel, rfl⟩
theorem d_Mo_compareShort_101 : j_D jm_Mo_compareShort 101 .iadd 1 102 := ⟨by decide +kernel, rfl⟩
theorem d_Mo_compareShort_102 : j_D jm_Mo_compareShort 102 .iaload 1 103 := ⟨by decide +kernel, rfl⟩
theorem d_Mo_compareShort_103 : j_D jm_Mo_compareShort 103 (.iconst 1) 1 104 := ⟨by decide +kernel, rfl⟩
theorem d_Mo_compareShort_104 : j_D jm_Mo_compareShort 104 .iadd 1 105 := ⟨by decide +kernel, rfl⟩
theorem d_Mo_compareShort_105 : j_E jm_Mo_compareShort 105 .goto 4 108 109 := ⟨by decide +kernel, rfl, by decide⟩
theorem d_Mo_compareShort_108 : j_D jm_Mo_compareShort 108 (.iconst 0) 1 109 := ⟨by decide +kernel, rfl⟩
theorem d_Mo_compareShort_109 : j_D jm_Mo_compareShort 109 (.istore 10) 2 111 := ⟨by decide +kernel, rfl⟩
theorem d_Mo_compareShort_111 : j_D jm_Mo_compareShort 111 (.iload 8) 2 113 := ⟨by decide +kernel, rfl⟩
theorem d_Mo_compareShort_113 : j_D jm_Mo_compareShort 113 (.iload 9) 2 115 := ⟨by decide +kernel, rfl⟩
theorem d_Mo_compareShort_115 : j_E jm_Mo_compareShort 115 (.if_icmp .le) 8 118 123 := ⟨by decide +kernel, rfl, by decide⟩
theorem d_Mo_compareShort_118 : j_D jm_Mo_compareShort 118 (.iload 8) 2 120 := ⟨by decide +kernel, rfl⟩
theorem d_Mo_compareShort_120 : j_E jm_Mo_compareShort 120 .goto 5 123 125 := ⟨by decide +kernel, rfl, by decide⟩
theorem d_Mo_compareShort_123 : j_D jm_Mo_compareShort 123 (.iload 9) 2 125 := ⟨by decide +kernel, rfl⟩
theorem d_Mo_compareShort_125 : j_D jm_Mo_compareShort 125 (.istore 7) 2 127 := ⟨by decide +kernel, rfl⟩
theorem d_Mo_compareShort_127 : j_D jm_Mo_compareShort 127 (.iload 10) 2 129 := ⟨by decide +kernel, rfl⟩
theorem d_Mo_compareShort_129 : j_D jm_Mo_compareShort 129 (.iload 7) 2 131 := ⟨by decide +kernel, rfl⟩
theorem d_Mo_compareShort_131 : j_E jm_Mo_compareShort 131 (.if_icmp .le) 8 134 139 := ⟨by decide +kernel, rfl, by decide⟩
theorem d_Mo_compareShort_134 : j_D jm_Mo_compareShort 134 (.iload 10) 2 136 := ⟨by decide +kernel, rfl⟩
theorem d_Mo_compareShort_136 : j_E jm_Mo_compareShort 136 .goto 5 139 141 := ⟨by decide +kernel, rfl, by decide⟩
theorem d_Mo_compareShort_139 : j_D jm_Mo_compareShort 139 (.iload 7) 2 141 := ⟨by decide +kernel, rfl⟩
theorem d_Mo_compareShort_141 : j_D jm_Mo_compareShort 141 (.istore 7) 2 143 := ⟨by decide +kernel, rfl⟩
theorem d_Mo_compareShort_143 : j_D jm_Mo_compareShort 143 (.aload_n 0) 1 144 := ⟨by decide +kernel, rfl⟩
theorem d_Mo_compareShort_144 : j_D jm_Mo_compareShort 144 (.getfield 25) 3 147 := ⟨by decide +kernel, rfl⟩
theorem d_Mo_compareShort_147 : j_D jm_Mo_compareShort 147 (.bipush 25) 2 149 := ⟨by decide +kernel, rfl⟩
theorem d_Mo_compareShort_149 : j_D jm_Mo_compareShort 149 (.iload 5) 2 151 := ⟨by decide +kernel, rfl⟩
theorem d_Mo_compareShort_151 : j_D jm_Mo_compareShort 151 .imul 1 152 := ⟨by decide +kernel, rfl⟩
theorem d_Mo_compareShort_152 : j_D jm_Mo_compareShort 152 (.iload 6) 2 154 := ⟨by decide +kernel, rfl⟩
theorem d_Mo_compareShort_154 : j_D jm_Mo_compareShort 154 .iadd 1 155 := ⟨by decide +kernel, rfl⟩
theorem d_Mo_compareShort_155 : j_D jm_Mo_compareShort 155 (.iload 7) 2 157 := ⟨by decide +kernel, rfl⟩
theorem d_Mo_compareShort_157 : j_D jm_Mo_compareShort 157 .iastore 1 158 := ⟨by decide +kernel, rfl⟩
theorem d_Mo_compareShort_158 : j_D jm_Mo_compareShort 158 (.iinc 6 (-1)) 3 161 := ⟨by decide +kernel, rfl⟩
theorem d_Mo_compareShort_161 : j_E jm_Mo_compareShort 161 .goto (-148) 164 13 := ⟨by decide +kernel, rfl, by decide⟩
theorem d_Mo_compareShort_164 : j_D jm_Mo_compareShort 164 (.iinc 5 (-1)) 3 167 := ⟨by decide +kernel, rfl⟩
theorem d_Mo_compareShort_167 : j_E jm_Mo_compareShort 167 .goto (-164) 170 3 := ⟨by decide +kernel, rfl, by decide⟩
theorem d_Mo_compareShort_170 : j_D jm_Mo_compareShort 170 (.iload_n 1) 1 171 := ⟨by decide +kernel, rfl⟩
theorem d_Mo_compareShort_171 : j_D jm_Mo_compareShort 171 (.istore 5) 2 173 := ⟨by decide +kernel, rfl⟩
theorem d_Mo_compareShort_173 : j_D jm_Mo_compareShort 173 (.iload_n 3) 1 174 := ⟨by decide +kernel, rfl⟩
theorem d_Mo_compareShort_174 : j_D jm_Mo_compareShort 174 (.istore 6) 2 176 := ⟨by decide +kernel, rfl⟩
theorem d_Mo_compareShort_176 : j_D jm_Mo_compareShort 176 (.iload 5) 2 178 := ⟨by decide +kernel, rfl⟩
theorem d_Mo_compareShort_178 : j_D jm_Mo_compareShort 178 (.iload_n 2) 1 179 := ⟨by decide +kernel, rfl⟩
theorem d_Mo_compareShort_179 : j_E jm_Mo_compareShort 179 (.if_icmp .ge) 91 182 270 := ⟨by decide +kernel, rfl, by decide⟩
theorem d_Mo_compareShort_182 : j_D jm_Mo_compareShort 182 (.iload 6) 2 184 := ⟨by decide +kernel, rfl⟩
theorem d_Mo_compareShort_184 : j_D jm_Mo_compareShort 184 (.iload 4) 2 186 := ⟨by decide +kernel, rfl⟩
theorem d_Mo_compareShort_186 : j_E jm_Mo_compareShort 186 (.if_icmp .ge) 84 189 270 := ⟨by decide +kernel, rfl, by decide⟩
theorem d_Mo_compareShort_189 : j_D jm_Mo_compareShort 189 (.aload_n 0) 1 190 := ⟨by decide +kernel, rfl⟩
theorem d_Mo_compareShort_190 : j_D jm_Mo_compareShort 190 (.getfield 16) 3 193 := ⟨by decide +kernel, rfl⟩
theorem d_Mo_compareShort_193 : j_D jm_Mo_compareShort 193 (.iload 5) 2 195 := ⟨by decide +kernel, rfl⟩
theorem d_Mo_compareShort_195 : j_D jm_Mo_compareShort 195 .iaload 1 196 := ⟨by decide +kernel, rfl⟩
theorem d_Mo_compareShort_196 : j_D jm_Mo_compareShort 196 (.aload_n 0) 1 197 := ⟨by decide +kernel, rfl⟩
theorem d_Mo_compareShort_197 : j_D jm_Mo_compareShort 197 (.getfield 19) 3 200 := ⟨by decide +kernel, rfl⟩
theorem d_Mo_compareShort_200 : j_D jm_Mo_compareShort 200 (.iload 6) 2 202 := ⟨by decide +kernel, rfl⟩
theorem d_Mo_compareShort_202 : j_D jm_Mo_compareShort 202 .iaload 1 203 := ⟨by decide +kernel, rfl⟩
theorem d_Mo_compareShort_203 : j_E jm_Mo_compareShort 203 (.if_icmp .ne) 21 206 224 := ⟨by decide +kernel, rfl, by decide⟩
theorem d_Mo_compareShort_206 : j_D jm_Mo_compareShort 206 (.aload_n 0) 1 207 := ⟨by decide +kernel, rfl⟩
theorem d_Mo_compareShort_207 : j_D jm_Mo_compareShort 207 (.getfield 22) 3 210 := ⟨by decide +kernel, rfl⟩
theorem d_Mo_compareShort_210 : j_D jm_Mo_compareShort 210 (.iload 5) 2 212 := ⟨by decide +kernel, rfl⟩
theorem d_Mo_compareShort_212 : j_D jm_Mo_compareShort 212 (.iload 6) 2 214 := ⟨by decide +kernel, rfl⟩
theorem d_Mo_compareShort_214 : j_D jm_Mo_compareShort 214 .iastore 1 215 := ⟨by decide +kernel, rfl⟩
theorem d_Mo_compareShort_215 : j_D jm_Mo_compareShort 215 (.iinc 5 1) 3 218 := ⟨by decide +kernel, rfl⟩
theorem d_Mo_compareShort_218 : j_D jm_Mo_compareShort 218 (.iinc 6 1) 3 221 := ⟨by decide +kernel, rfl⟩
theorem d_Mo_compareShort_221 : j_E jm_Mo_compareShort 221 .goto (-45) 224 176 := ⟨by decide +kernel, rfl, by decide⟩
theorem d_Mo_compareShort_224 : j_D jm_Mo_compareShort 224 (.aload_n 0) 1 225 := ⟨by decide +kernel, rfl⟩
theorem d_Mo_compareShort_225 : j_D jm_Mo_compareShort 225 (.getfield 25) 3 228 := ⟨by decide +kernel, rfl⟩
theorem d_Mo_compareShort_228 : j_D jm_Mo_compareShort 228 (.bipush 25) 2 230 := ⟨by decide +kernel, rfl⟩
theorem d_Mo_compareShort_230 : j_D jm_Mo_compareShort 230 (.iload 5) 2 232 := ⟨by decide +kernel, rfl⟩
theorem d_Mo_compareShort_232 : j_D jm_Mo_compareShort 232 .imul 1 233 := ⟨by decide +kernel, rfl⟩
theorem d_Mo_compareShort_233 : j_D jm_Mo_compareShort 233 (.bipush 25) 2 235 := ⟨by decide +kernel, rfl⟩
theorem d_Mo_compareShort_235 : j_D jm_Mo_compareShort 235 .iadd 1 236 := ⟨by decide +kernel, rfl⟩
theorem d_Mo_compareShort_236 : j_D jm_Mo_compareShort 236 (.iload 6) 2 238 := ⟨by decide +kernel, rfl⟩
theorem d_Mo_compareShort_238 : j_D jm_Mo_compareShort 238 .iadd 1 239 := ⟨by decide +kernel, rfl⟩
theorem d_Mo_compareShort_239 : j_D jm_Mo_compareShort 239 .iaload 1 240 := ⟨by decide +kernel, rfl⟩
theorem d_Mo_compareShort_240 : j_D jm_Mo_compareShort 240 (.aload_n 0) 1 241 := ⟨by decide +kernel, rfl⟩
theorem d_Mo_compareShort_241 : j_D jm_Mo_compareShort 241 (.getfield 25) 3 244 := ⟨by decide +kernel, rfl⟩
theorem d_Mo_compareShort_244 : j_D jm_Mo_compareShort 244 (.bipush 25) 2 246 := ⟨by decide +kernel, rfl⟩
theorem d_Mo_compareShort_246 : j_D jm_Mo_compareShort 246 (.iload 5) 2 248 := ⟨by decide +kernel, rfl⟩
theorem d_Mo_compareShort_248 : j_D jm_Mo_compareShort 248 .imul 1 249 := ⟨by decide +kernel, rfl⟩
theorem d_Mo_compareShort_249 : j_D jm_Mo_compareShort 249 (.iload 6) 2 251 := ⟨by decide +kernel, rfl⟩
theorem d_Mo_compareShort_251 : j_D jm_Mo_compareShort 251 .iadd 1 252 := ⟨by decide +kernel, rfl⟩
theorem d_Mo_compareShort_252 : j_D jm_Mo_compareShort 252 (.iconst 1) 1 253 := ⟨by decide +kernel, rfl⟩
theorem d_Mo_compareShort_253 : j_D jm_Mo_compareShort 253 .iadd 1 254 := ⟨by decide +kernel, rfl⟩
theorem d_Mo_compareShort_254 : j_D jm_Mo_compareShort 254 .iaload 1 255 := ⟨by decide +kernel, rfl⟩
theorem d_Mo_compareShort_255 : j_E jm_Mo_compareShort 255 (.if_icmp .lt) 9 258 264 := ⟨by decide +kernel, rfl, by decide⟩
theorem d_Mo_compareShort_258 : j_D jm_Mo_compareShort 258 (.iinc 5 1) 3 261 := ⟨by decide +kernel, rfl⟩
theorem d_Mo_compareShort_261 : j_E jm_Mo_compareShort 261 .goto (-85) 264 176 := ⟨by decide +kernel, rfl, by decide⟩
theorem d_Mo_compareShort_264 : j_D jm_Mo_compareShort 264 (.iinc 6 1) 3 267 := ⟨by decide +kernel, rfl⟩
theorem d_Mo_compareShort_267 : j_E jm_Mo_compareShort 267 .goto (-91) 270 176 := ⟨by decide +kernel, rfl, by decide⟩
theorem d_Mo_compareShort_270 : j_D jm_Mo_compareShort 270 .return_ 1 271 := ⟨by decide +kernel, rfl⟩
theorem d_Mo_await_0 : j_D jm_Mo_await 0 (.aload_n 0) 1 1 := ⟨by decide +kernel, rfl⟩
theorem d_Mo_await_1 : j_D jm_Mo_await 1 (.getfield 28) 3 4 := ⟨by decide +kernel, rfl⟩
theorem d_Mo_await_4 : j_D jm_Mo_await 4 (.aload_n 0) 1 5 := ⟨by decide +kernel, rfl⟩
theorem d_Mo_await_5 : j_D jm_Mo_await 5 (.getfield 103) 3 8 := ⟨by decide +kernel, rfl⟩
theorem d_Mo_await_8 : j_D jm_Mo_await 8 (.iload_n 1) 1 9 := ⟨by decide +kernel, rfl⟩
theorem d_Mo_await_9 : j_D jm_Mo_await 9 .iastore 1 10 := ⟨by decide +kernel, rfl⟩
theorem d_Mo_await_10 : j_D jm_Mo_await 10 (.aload_n 0) 1 11 := ⟨by decide +kernel, rfl⟩
theorem d_Mo_await_11 : j_D jm_Mo_await 11 (.getfield 31) 3 14 := ⟨by decide +kernel, rfl⟩
theorem d_Mo_await_14 : j_D jm_Mo_await 14 (.aload_n 0) 1 15 := ⟨by decide +kernel, rfl⟩
theorem d_Mo_await_15 : j_D jm_Mo_await 15 (.getfield 103) 3 18 := ⟨by decide +kernel, rfl⟩
theorem d_Mo_await_18 : j_D jm_Mo_await 18 (.iload_n 2) 1 19 := ⟨by decide +kernel, rfl⟩
theorem d_Mo_await_19 : j_D jm_Mo_await 19 .iastore 1 20 := ⟨by decide +kernel, rfl⟩
theorem d_Mo_await_20 : j_D jm_Mo_await 20 (.aload_n 0) 1 21 := ⟨by decide +kernel, rfl⟩
theorem d_Mo_await_21 : j_D jm_Mo_await 21 (.getfield 34) 3 24 := ⟨by decide +kernel, rfl⟩
theorem d_Mo_await_24 : j_D jm_Mo_await 24 (.aload_n 0) 1 25 := ⟨by decide +kernel, rfl⟩
theorem d_Mo_await_25 : j_D jm_Mo_await 25 (.getfield 103) 3 28 := ⟨by decide +kernel, rfl⟩
theorem d_Mo_await_28 : j_D jm_Mo_await 28 (.iload_n 3) 1 29 := ⟨by decide +kernel, rfl⟩
theorem d_Mo_await_29 : j_D jm_Mo_await 29 .iastore 1 30 := ⟨by decide +kernel, rfl⟩
theorem d_Mo_await_30 : j_D jm_Mo_await 30 (.aload_n 0) 1 31 := ⟨by decide +kernel, rfl⟩
theorem d_Mo_await_31 : j_D jm_Mo_await 31 (.getfield 37) 3 34 := ⟨by decide +kernel, rfl⟩
theorem d_Mo_await_34 : j_D jm_Mo_await 34 (.aload_n 0) 1 35 := ⟨by decide +kernel, rfl⟩
theorem d_Mo_await_35 : j_D jm_Mo_await 35 (.getfield 103) 3 38 := ⟨by decide +kernel, rfl⟩
theorem d_Mo_await_38 : j_D jm_Mo_await 38 (.iload 4) 2 40 := ⟨by decide +kernel, rfl⟩
theorem d_Mo_await_40 : j_D jm_Mo_await 40 .iastore 1 41 := ⟨by decide +kernel, rfl⟩
theorem d_Mo_await_41 : j_D jm_Mo_await 41 (.aload_n 0) 1 42 := ⟨by decide +kernel, rfl⟩
theorem d_Mo_await_42 : j_D jm_Mo_await 42 .dup 1 43 := ⟨by decide +kernel, rfl⟩
theorem d_Mo_await_43 : j_D jm_Mo_await 43 (.getfield 103) 3 46 := ⟨by decide +kernel, rfl⟩
theorem d_Mo_await_46 : j_D jm_Mo_await 46 (.iconst 1) 1 47 := ⟨by decide +kernel, rfl⟩
theorem d_Mo_await_47 : j_D jm_Mo_await 47 .iadd 1 48 := ⟨by decide +kernel, rfl⟩
theorem d_Mo_await_48 : j_D jm_Mo_await 48 (.putfield 103) 3 51 := ⟨by decide +kernel, rfl⟩
theorem d_Mo_await_51 : j_D jm_Mo_await 51 .return_ 1 52 := ⟨by decide +kernel, rfl⟩
theorem d_Mo_partner_0 : j_D jm_Mo_partner 0 (.iconst 0) 1 1 := ⟨by decide +kernel, rfl⟩
theorem d_Mo_partner_1 : j_D jm_Mo_partner 1 (.istore 6) 2 3 := ⟨by decide +kernel, rfl⟩
theorem d_Mo_partner_3 : j_D jm_Mo_partner 3 (.iload_n 2) 1 4 := ⟨by decide +kernel, rfl⟩
theorem d_Mo_partner_4 : j_D jm_Mo_partner 4 (.istore 7) 2 6 := ⟨by decide +kernel, rfl⟩
theorem d_Mo_partner_6 : j_D jm_Mo_partner 6 (.iload 7) 2 8 := ⟨by decide +kernel, rfl⟩
theorem d_Mo_partner_8 : j_D jm_Mo_partner 8 (.iload_n 3) 1 9 := ⟨by decide +kernel, rfl⟩
theorem d_Mo_partner_9 : j_E jm_Mo_partner 9 (.if_icmp .ge) 36 12 45 := ⟨by decide +kernel, rfl, by decide⟩
theorem d_Mo_partner_12 : j_D jm_Mo_partner 12 (.aload_n 0) 1 13 := ⟨by decide +kernel, rfl⟩
theorem d_Mo_partner_13 : j_D jm_Mo_partner 13 (.getfield 16) 3 16 := ⟨by decide +kernel, rfl⟩
theorem d_Mo_partner_16 : j_D jm_Mo_partner 16 (.iload 7) 2 18 := ⟨by decide +kernel, rfl⟩
theorem d_Mo_partner_18 : j_D jm_Mo_partner 18 .iaload 1 19 := ⟨by decide +kernel, rfl⟩
theorem d_Mo_partner_19 : j_D jm_Mo_partner 19 (.aload_n 0) 1 20 := ⟨by decide +kernel, rfl⟩
theorem d_Mo_partner_20 : j_D jm_Mo_partner 20 (.getfield 16) 3 23 := ⟨by decide +kernel, rfl⟩
theorem d_Mo_partner_23 : j_D jm_Mo_partner 23 (.iload_n 1) 1 24 := ⟨by decide +kernel, rfl⟩
theorem d_Mo_partner_24 : j_D jm_Mo_partner 24 .iaload 1 25 := ⟨by decide +kernel, rfl⟩
theorem d_Mo_partner_25 : j_E jm_Mo_partner 25 (.if_icmp .ne) 10 28 35 := ⟨by decide +kernel, rfl, by decide⟩
theorem d_Mo_partner_28 : j_D jm_Mo_partner 28 (.iload 6) 2 30 := ⟨by decide +kernel, rfl⟩
theorem d_Mo_partner_30 : j_D jm_Mo_partner 30 (.iconst 1) 1 31 := ⟨by decide +kernel, rfl⟩
theorem d_Mo_partner_31 : j_D jm_Mo_partner 31 .iadd 1 32 := ⟨by decide +kernel, rfl⟩
theorem d_Mo_partner_32 : j_E jm_Mo_partner 32 .goto 5 35 37 := ⟨by decide +kernel, rfl, by decide⟩
theorem d_Mo_partner_35 : j_D jm_Mo_partner 35 (.iload 6) 2 37 := ⟨by decide +kernel, rfl⟩
theorem d_Mo_partner_37 : j_D jm_Mo_partner 37 (.istore 6) 2 39 := ⟨by decide +kernel, rfl⟩
theorem d_Mo_partner_39 : j_D jm_Mo_partner 39 (.iinc 7 1) 3 42 := ⟨by decide +kernel, rfl⟩
theorem d_Mo_partner_42 : j_E jm_Mo_partner 42 .goto (-36) 45 6 := ⟨by decide +kernel, rfl, by decide⟩
theorem d_Mo_partner_45 : j_D jm_Mo_partner 45 (.iconst 0) 1 46 := ⟨by decide +kernel, rfl⟩
theorem d_Mo_partner_46 : j_D jm_Mo_partner 46 (.istore 7) 2 48 := ⟨by decide +kernel, rfl⟩
theorem d_Mo_partner_48 : j_D jm_Mo_partner 48 (.iconst (-1)) 1 49 := ⟨by decide +kernel, rfl⟩
theorem d_Mo_partner_49 : j_D jm_Mo_partner 49 (.istore 8) 2 51 := ⟨by decide +kernel, rfl⟩
theorem d_Mo_partner_51 : j_D jm_Mo_partner 51 (.iload 4) 2 53 := ⟨by decide +kernel, rfl⟩
theorem d_Mo_partner_53 : j_D jm_Mo_partner 53 (.istore 9) 2 55 := ⟨by decide +kernel, rfl⟩
theorem d_Mo_partner_55 : j_D jm_Mo_partner 55 (.iload 9) 2 57 := ⟨by decide +kernel, rfl⟩
theorem d_Mo_partner_57 : j_D jm_Mo_partner 57 (.iload 5) 2 59 := ⟨by decide +kernel, rfl⟩
theorem d_Mo_partner_59 : j_E jm_Mo_partner 59 (.if_icmp .ge) 61 62 120 := ⟨by decide +kernel, rfl, by decide⟩
theorem d_Mo_partner_62 : j_D jm_Mo_partner 62 (.aload_n 0) 1 63 := ⟨by decide +kernel, rfl⟩
theorem d_Mo_partner_63 : j_D jm_Mo_partner 63 (.getfield 19) 3 66 := ⟨by decide +kernel, rfl⟩
theorem d_Mo_partner_66 : j_D jm_Mo_partner 66 (.iload 9) 2 68 := ⟨by decide +kernel, rfl⟩
theorem d_Mo_partner_68 : j_D jm_Mo_partner 68 .iaload 1 69 := ⟨by decide +kernel, rfl⟩
theorem d_Mo_partner_69 : j_D jm_Mo_partner 69 (.aload_n 0) 1 70 := ⟨by decide +kernel, rfl⟩
theorem d_Mo_partner_70 : j_D jm_Mo_partner 70 (.getfield 16) 3 73 := ⟨by decide +kernel, rfl⟩
theorem d_Mo_partner_73 : j_D jm_Mo_partner 73 (.iload_n 1) 1 74 := ⟨by decide +kernel, rfl⟩
theorem d_Mo_partner_74 : j_D jm_Mo_partner 74 .iaload 1 75 := ⟨by decide +kernel, rfl⟩
theorem d_Mo_partner_75 : j_E jm_Mo_partner 75 (.if_icmp .ne) 10 78 85 := ⟨by decide +kernel, rfl, by decide⟩
theorem d_Mo_partner_78 : j_D jm_Mo_partner 78 (.iload 7) 2 80 := ⟨by decide +kernel, rfl⟩
theorem d_Mo_partner_80 : j_D jm_Mo_partner 80 (.iconst 1) 1 81 := ⟨by decide +kernel, rfl⟩
theorem d_Mo_partner_81 : j_D jm_Mo_partner 81 .iadd 1 82 := ⟨by decide +kernel, rfl⟩
theorem d_Mo_partner_82 : j_E jm_Mo_partner 82 .goto 5 85 87 := ⟨by decide +kernel, rfl, by decide⟩
theorem d_Mo_partner_85 : j_D jm_Mo_partner 85 (.iload 7) 2 87 := ⟨by decide +kernel, rfl⟩
theorem d_Mo_partner_87 : j_D jm_Mo_partner 87 (.istore 7) 2 89 := ⟨by decide +kernel, rfl⟩
theorem d_Mo_partner_89 : j_D jm_Mo_partner 89 (.aload_n 0) 1 90 := ⟨by decide +kernel, rfl⟩
theorem d_Mo_partner_90 : j_D jm_Mo_partner 90 (.getfield 19) 3 93 := ⟨by decide +kernel, rfl⟩
theorem d_Mo_partner_93 : j_D jm_Mo_partner 93 (.iload 9) 2 95 := ⟨by decide +kernel, rfl⟩
theorem d_Mo_partner_95 : j_D jm_Mo_partner 95 .iaload 1 96 := ⟨by decide +kernel, rfl⟩
theorem d_Mo_partner_96 : j_D jm_Mo_partner 96 (.aload_n 0) 1 97 := ⟨by decide +kernel, rfl⟩
theorem d_Mo_partner_97 : j_D jm_Mo_partner 97 (.getfield 16) 3 100 := ⟨by decide +kernel, rfl⟩
theorem d_Mo_partner_100 : j_D jm_Mo_partner 100 (.iload_n 1) 1 101 := ⟨by decide +kernel, rfl⟩
theorem d_Mo_partner_101 : j_D jm_Mo_partner 101 .iaload 1 102 := ⟨by decide +kernel, rfl⟩
theorem d_Mo_partner_102 : j_E jm_Mo_partner 102 (.if_icmp .ne) 8 105 110 := ⟨by decide +kernel, rfl, by decide⟩
theorem d_Mo_partner_105 : j_D jm_Mo_partner 105 (.iload 9) 2 107 := ⟨by decide +kernel, rfl⟩
theorem d_Mo_partner_107 : j_E jm_Mo_partner 107 .goto 5 110 112 := ⟨by decide +kernel, rfl, by decide⟩
theorem d_Mo_partner_110 : j_D jm_Mo_partner 110 (.iload 8) 2 112 := ⟨by decide +kernel, rfl⟩
theorem d_Mo_partner_112 : j_D jm_Mo_partner 112 (.istore 8) 2 114 := ⟨by decide +kernel, rfl⟩
theorem d_Mo_partner_114 : j_D jm_Mo_partner 114 (.iinc 9 1) 3 117 := ⟨by decide +kernel, rfl⟩
theorem d_Mo_partner_117 : j_E jm_Mo_partner 117 .goto (-62) 120 55 := ⟨by decide +kernel, rfl, by decide⟩
theorem d_Mo_partner_120 : j_D jm_Mo_partner 120 (.iload 6) 2 122 := ⟨by decide +kernel, rfl⟩
theorem d_Mo_partner_122 : j_D jm_Mo_partner 122 (.iconst 1) 1 123 := ⟨by decide +kernel, rfl⟩
theorem d_Mo_partner_123 : j_E jm_Mo_partner 123 (.if_icmp .ne) 14 126 137 := ⟨by decide +kernel, rfl, by decide⟩
theorem d_Mo_partner_126 : j_D jm_Mo_partner 126 (.iload 7) 2 128 := ⟨by decide +kernel, rfl⟩
theorem d_Mo_partner_128 : j_D jm_Mo_partner 128 (.iconst 1) 1 129 := ⟨by decide +kernel, rfl⟩
theorem d_Mo_partner_129 : j_E jm_Mo_partner 129 (.if_icmp .ne) 8 132 137 := ⟨by decide +kernel, rfl, by decide⟩
theorem d_Mo_partner_132 : j_D jm_Mo_partner 132 (.iload 8) 2 134 := ⟨by decide +kernel, rfl⟩
theorem d_Mo_partner_134 : j_E jm_Mo_partner 134 .goto 4 137 138 := ⟨by decide +kernel, rfl, by decide⟩
theorem d_Mo_partner_137 : j_D jm_Mo_partner 137 (.iconst (-1)) 1 138 := ⟨by decide +kernel, rfl⟩
theorem d_Mo_partner_138 : j_D jm_Mo_partner 138 .ireturn 1 139 := ⟨by decide +kernel, rfl⟩
theorem d_Mo_findRanks_0 : j_D jm_Mo_findRanks 0 (.iconst 0) 1 1 := ⟨by decide +kernel, rfl⟩
theorem d_Mo_findRanks_1 : j_D jm_Mo_findRanks 1 (.istore 5) 2 3 := ⟨by decide +kernel, rfl⟩
theorem d_Mo_findRanks_3 : j_D jm_Mo_findRanks 3 (.iload_n 1) 1 4 := ⟨by decide +kernel, rfl⟩
theorem d_Mo_findRanks_4 : j_D jm_Mo_findRanks 4 (.istore 6) 2 6 := ⟨by decide +kernel, rfl⟩
theorem d_Mo_findRanks_6 : j_D jm_Mo_findRanks 6 (.iload 6) 2 8 := ⟨by decide +kernel, rfl⟩
theorem d_Mo_findRanks_8 : j_D jm_Mo_findRanks 8 (.iload_n 2) 1 9 := ⟨by decide +kernel, rfl⟩
theorem d_Mo_findRanks_9 : j_E jm_Mo_findRanks 9 (.if_icmp .ge) 148 12 157 := ⟨by decide +kernel, rfl, by decide⟩
theorem d_Mo_findRanks_12 : j_D jm_Mo_findRanks 12 (.aload_n 0) 1 13 := ⟨by decide +kernel, rfl⟩
theorem d_Mo_findRanks_13 : j_D jm_Mo_findRanks 13 (.getfield 40) 3 16 := ⟨by decide +kernel, rfl⟩
theorem d_Mo_findRanks_16 : j_D jm_Mo_findRanks 16 (.iload 6) 2 18 := ⟨by decide +kernel, rfl⟩
theorem d_Mo_findRanks_18 : j_D jm_Mo_findRanks 18 (.aload_n 0) 1 19 := ⟨by decide +kernel, rfl⟩
theorem d_Mo_findRanks_19 : j_D jm_Mo_findRanks 19 (.iload 6) 2 21 := ⟨by decide +kernel, rfl⟩
theorem d_Mo_findRanks_21 : j_D jm_Mo_findRanks 21 (.iload_n 1) 1 22 := ⟨by decide +kernel, rfl⟩
theorem d_Mo_findRanks_22 : j_D jm_Mo_findRanks 22 (.iload_n 2) 1 23 := ⟨by decide +kernel, rfl⟩
theorem d_Mo_findRanks_23 : j_D jm_Mo_findRanks 23 (.iload_n 3) 1 24 := ⟨by decide +kernel, rfl⟩
theorem d_Mo_findRanks_24 : j_D jm_Mo_findRanks 24 (.iload 4) 2 26 := ⟨by decide +kernel, rfl⟩
theorem d_Mo_findRanks_26 : j_D jm_Mo_findRanks 26 (.invokevirtual 106) 3 29 := ⟨by decide +kernel, rfl⟩
theorem d_Mo_findRanks_29 : j_D jm_Mo_findRanks 29 .iastore 1 30 := ⟨by decide +kernel, rfl⟩
theorem d_Mo_findRanks_30 : j_D jm_Mo_findRanks 30 (.aload_n 0) 1 31 := ⟨by decide +kernel, rfl⟩
theorem d_Mo_findRanks_31 : j_D jm_Mo_findRanks 31 (.getfield 43) 3 34 := ⟨by decide +kernel, rfl⟩
theorem d_Mo_findRanks_34 : j_D jm_Mo_findRanks 34 (.iload 6) 2 36 := ⟨by decide +kernel, rfl⟩
theorem d_Mo_findRanks_36 : j_D jm_Mo_findRanks 36 (.iconst 0) 1 37 := ⟨by decide +kernel, rfl⟩
theorem d_Mo_findRanks_37 : j_D jm_Mo_findRanks 37 .iastore 1 38 := ⟨by decide +kernel, rfl⟩
theorem d_Mo_findRanks_38 : j_D jm_Mo_findRanks 38 (.aload_n 0) 1 39 := ⟨by decide +kernel, rfl⟩
theorem d_Mo_findRanks_39 : j_D jm_Mo_findRanks 39 (.getfield 40) 3 42 := ⟨by decide +kernel, rfl⟩
theorem d_Mo_findRanks_42 : j_D jm_Mo_findRanks 42 (.iload 6) 2 44 := ⟨by decide +kernel, rfl⟩
theorem d_Mo_findRanks_44 : j_D jm_Mo_findRanks 44 .iaload 1 45 := ⟨by decide +kernel, rfl⟩
theorem d_Mo_findRanks_45 : j_E jm_Mo_findRanks 45 (.ifCond .lt) 106 48 151 := ⟨by decide +kernel, rfl, by decide⟩
theorem d_Mo_findRanks_48 : j_D jm_Mo_findRanks 48 (.iconst 0) 1 49 := ⟨by decide +kernel, rfl⟩
theorem d_Mo_findRanks_49 : j_D jm_Mo_findRanks 49 (.istore 7) 2 51 := ⟨by decide +kernel, rfl⟩
theorem d_Mo_findRanks_51 : j_D jm_Mo_findRanks 51 (.iload_n 1) 1 52 := ⟨by decide +kernel, rfl⟩
theorem d_Mo_findRanks_52 : j_D jm_Mo_findRanks 52 (.istore 8) 2 54 := ⟨by decide +kernel, rfl⟩
theorem d_Mo_findRanks_54 : j_D jm_Mo_findRanks 54 (.iload 8) 2 56 := ⟨by decide +kernel, rfl⟩
theorem d_Mo_findRanks_56 : j_D jm_Mo_findRanks 56 (.iload 6) 2 58 := ⟨by decide +kernel, rfl⟩
theorem d_Mo_findRanks_58 : j_E jm_Mo_findRanks 58 (.if_icmp .ge) 62 61 120 := ⟨by decide +kernel, rfl, by decide⟩
theorem d_Mo_findRanks_61 : j_D jm_Mo_findRanks 61 (.aload_n 0) 1 62 := ⟨by decide +kernel, rfl⟩
theorem d_Mo_findRanks_62 : j_D jm_Mo_findRanks 62 (.getfield 40) 3 65 := ⟨by decide +kernel, rfl⟩
theorem d_Mo_findRanks_65 : j_D jm_Mo_findRanks 65 (.iload 8) 2 67 := ⟨by decide +kernel, rfl⟩
theorem d_Mo_findRanks_67 : j_D jm_Mo_findRanks 67 .iaload 1 68 := ⟨by decide +kernel, rfl⟩
theorem d_Mo_findRanks_68 : j_E jm_Mo_findRanks 68 (.ifCond .lt) 42 71 110 := ⟨by decide +kernel, rfl, by decide⟩
theorem d_Mo_findRanks_71 : j_D jm_Mo_findRanks 71 (.aload_n 0) 1 72 := ⟨by decide +kernel, rfl⟩
theorem d_Mo_findRanks_72 : j_D jm_Mo_findRanks 72 (.getfield 40) 3 75 := ⟨by decide +kernel, rfl⟩
theorem d_Mo_findRanks_75 : j_D jm_Mo_findRanks 75 (.iload 8) 2 77 := ⟨by decide +kernel, rfl⟩
theorem d_Mo_findRanks_77 : j_D jm_Mo_findRanks 77 .iaload 1 78 := ⟨by decide +kernel, rfl⟩
theorem d_Mo_findRanks_78 : j_D jm_Mo_findRanks 78 (.aload_n 0) 1 79 := ⟨by decide +kernel, rfl⟩
theorem d_Mo_findRanks_79 : j_D jm_Mo_findRanks 79 (.getfield 40) 3 82 := ⟨by decide +kernel, rfl⟩
theorem d_Mo_findRanks_82 : j_D jm_Mo_findRanks 82 (.iload 6) 2 84 := ⟨by decide +kernel, rfl⟩
theorem d_Mo_findRanks_84 : j_D jm_Mo_findRanks 84 .iaload 1 85 := ⟨by decide +kernel, rfl⟩
theorem d_Mo_findRanks_85 : j_E jm_Mo_findRanks 85 (.if_icmp .ge) 25 88 110 := ⟨by decide +kernel, rfl, by decide⟩
theorem d_Mo_findRanks_88 : j_D jm_Mo_findRanks 88 (.aload_n 0) 1 89 := ⟨by decide +kernel, rfl⟩
theorem d_Mo_findRanks_89 : j_D jm_Mo_findRanks 89 (.getfield 43) 3 92 := ⟨by decide +kernel, rfl⟩
theorem d_Mo_findRanks_92 : j_D jm_Mo_findRanks 92 (.iload 8) 2 94 := ⟨by decide +kernel, rfl⟩
theorem d_Mo_findRanks_94 : j_D jm_Mo_findRanks 94 .iaload 1 95 := ⟨by decide +kernel, rfl⟩
theorem d_Mo_findRanks_95 : j_D jm_Mo_findRanks 95 (.iload 7) 2 97 := ⟨by decide +kernel, rfl⟩
theorem d_Mo_findRanks_97 : j_E jm_Mo_findRanks 97 (.if_icmp .le) 13 100 110 := ⟨by decide +kernel, rfl, by decide⟩
theorem d_Mo_findRanks_100 : j_D jm_Mo_findRanks 100 (.aload_n 0) 1 101 := ⟨by decide +kernel, rfl⟩
theorem d_Mo_findRanks_101 : j_D jm_Mo_findRanks 101 (.getfield 43) 3 104 := ⟨by decide +kernel, rfl⟩
theorem d_Mo_findRanks_104 : j_D jm_Mo_findRanks 104 (.iload 8) 2 106 := ⟨by decide +kernel, rfl⟩
theorem d_Mo_findRanks_106 : j_D jm_Mo_findRanks 106 .iaload 1 107 := ⟨by decide +kernel, rfl⟩
theorem d_Mo_findRanks_107 : j_E jm_Mo_findRanks 107 .goto 5 110 112 := ⟨by decide +kernel, rfl, by decide⟩
theorem d_Mo_findRanks_110 : j_D jm_Mo_findRanks 110 (.iload 7) 2 112 := ⟨by decide +kernel, rfl⟩
theorem d_Mo_findRanks_112 : j_D jm_Mo_findRanks 112 (.istore 7) 2 114 := ⟨by decide +kernel, rfl⟩
theorem d_Mo_findRanks_114 : j_D jm_Mo_findRanks 114 (.iinc 8 1) 3 117 := ⟨by decide +kernel, rfl⟩
theorem d_Mo_findRanks_117 : j_E jm_Mo_findRanks 117 .goto (-63) 120 54 := ⟨by decide +kernel, rfl, by decide⟩
theorem d_Mo_findRanks_120 : j_D jm_Mo_findRanks 120 (.aload_n 0) 1 121 := ⟨by decide +kernel, rfl⟩
theorem d_Mo_findRanks_121 : j_D jm_Mo_findRanks 121 (.getfield 43) 3 124 := ⟨by decide +kernel, rfl⟩
theorem d_Mo_findRanks_124 : j_D jm_Mo_findRanks 124 (.iload 6) 2 126 := ⟨by decide +kernel, rfl⟩
theorem d_Mo_findRanks_126 : j_D jm_Mo_findRanks 126 (.iload 7) 2 128 := ⟨by decide +kernel, rfl⟩
theorem d_Mo_findRanks_128 : j_D jm_Mo_findRanks 128 (.iconst 1) 1 129 := ⟨by decide +kernel, rfl⟩
theorem d_Mo_findRanks_129 : j_D jm_Mo_findRanks 129 .iadd 1 130 := ⟨by decide +kernel, rfl⟩
theorem d_Mo_findRanks_130 : j_D jm_Mo_findRanks 130 .iastore 1 131 := ⟨by decide +kernel, rfl⟩
theorem d_Mo_findRanks_131 : j_D jm_Mo_findRanks 131 (.iload 7) 2 133 := ⟨by decide +kernel, rfl⟩
theorem d_Mo_findRanks_133 : j_D jm_Mo_findRanks 133 (.iconst 1) 1 134 := ⟨by decide +kernel, rfl⟩
theorem d_Mo_findRanks_134 : j_D jm_Mo_findRanks 134 .iadd 1 135 := ⟨by decide +kernel, rfl⟩
theorem d_Mo_findRanks_135 : j_D jm_Mo_findRanks 135 (.iload 5) 2 137 := ⟨by decide +kernel, rfl⟩
theorem d_Mo_findRanks_137 : j_E jm_Mo_findRanks 137 (.if_icmp .le) 10 140 147 := ⟨by decide +kernel, rfl, by decide⟩
theorem d_Mo_findRanks_140 : j_D jm_Mo_findRanks 140 (.iload 7) 2 142 := ⟨by decide +kernel, rfl⟩
theorem d_Mo_findRanks_142 : j_D jm_Mo_findRanks 142 (.iconst 1) 1 143 := ⟨by decide +kernel, rfl⟩
theorem d_Mo_findRanks_143 : j_D jm_Mo_findRanks 143 .iadd 1 144 := ⟨by decide +kernel, rfl⟩
theorem d_Mo_findRanks_144 : j_E jm_Mo_findRanks 144 .goto 5 147 149 := ⟨by decide +kernel, rfl, by decide⟩
theorem d_Mo_findRanks_147 : j_D jm_Mo_findRanks 147 (.iload 5) 2 149 := ⟨by decide +kernel, rfl⟩
theorem d_Mo_findRanks_149 : j_D jm_Mo_findRanks 149 (.istore 5) 2 151 := ⟨by decide +kernel, rfl⟩
theorem d_Mo_findRanks_151 : j_D jm_Mo_findRanks 151 (.iinc 6 1) 3 154 := ⟨by decide +kernel, rfl⟩
theorem d_Mo_findRanks_154 : j_E jm_Mo_findRanks 154 .goto (-148) 157 6 := ⟨by decide +kernel, rfl, by decide⟩
theorem d_Mo_findRanks_157 : j_D jm_Mo_findRanks 157 (.iload 5) 2 159 := ⟨by decide +kernel, rfl⟩
theorem d_Mo_findRanks_159 : j_D jm_Mo_findRanks 159 .ireturn 1 160 := ⟨by decide +kernel, rfl⟩
theorem d_Mo_standOut_0 : j_D jm_Mo_standOut 0 (.iload_n 1) 1 1 := ⟨by decide +kernel, rfl⟩
theorem d_Mo_standOut_1 : j_D jm_Mo_standOut 1 (.istore 5) 2 3 := ⟨by decide +kernel, rfl⟩
theorem d_Mo_standOut_3 : j_D jm_Mo_standOut 3 (.iload_n 3) 1 4 := ⟨by decide +kernel, rfl⟩
theorem d_Mo_standOut_4 : j_D jm_Mo_standOut 4 (.istore 6) 2 6 := ⟨by decide +kernel, rfl⟩
theorem d_Mo_standOut_6 : j_D jm_Mo_standOut 6 (.iload 5) 2 8 := ⟨by decide +kernel, rfl⟩
theorem d_Mo_standOut_8 : j_D jm_Mo_standOut 8 (.iload_n 2) 1 9 := ⟨by decide +kernel, rfl⟩
theorem d_Mo_standOut_9 : j_E jm_Mo_standOut 9 (.if_icmp .ge) 45 12 54 := ⟨by decide +kernel, rfl, by decide⟩
theorem d_Mo_standOut_12 : j_D jm_Mo_standOut 12 (.iload 6) 2 14 := ⟨by decide +kernel, rfl⟩
theorem d_Mo_standOut_14 : j_D jm_Mo_standOut 14 (.iload 4) 2 16 := ⟨by decide +kernel, rfl⟩
theorem d_Mo_standOut_16 : j_E jm_Mo_standOut 16 (.if_icmp .ge) 38 19 54 := ⟨by decide +kernel, rfl, by decide⟩
theorem d_Mo_standOut_19 : j_D jm_Mo_standOut 19 (.aload_n 0) 1 20 := ⟨by decide +kernel, rfl⟩
theorem d_Mo_standOut_20 : j_D jm_Mo_standOut 20 (.getfield 16) 3 23 := ⟨by decide +kernel, rfl⟩
theorem d_Mo_standOut_23 : j_D jm_Mo_standOut 23 (.iload 5) 2 25 := ⟨by decide +kernel, rfl⟩
theorem d_Mo_standOut_25 : j_D jm_Mo_standOut 25 .iaload 1 26 := ⟨by decide +kernel, rfl⟩
theorem d_Mo_standOut_26 : j_D jm_Mo_standOut 26 (.aload_n 0) 1 27 := ⟨by decide +kernel, rfl⟩
theorem d_Mo_standOut_27 : j_D jm_Mo_standOut 27 (.getfield 19) 3 30 := ⟨by decide +kernel, rfl⟩
theorem d_Mo_standOut_30 : j_D jm_Mo_standOut 30 (.iload 6) 2 32 := ⟨by decide +kernel, rfl⟩
theorem d_Mo_standOut_32 : j_D jm_Mo_standOut 32 .iaload 1 33 := ⟨by decide +kernel, rfl⟩
theorem d_Mo_standOut_33 : j_E jm_Mo_standOut 33 (.if_icmp .ne) 21 36 54 := ⟨by decide +kernel, rfl, by decide⟩
theorem d_Mo_standOut_36 : j_D jm_Mo_standOut 36 (.aload_n 0) 1 37 := ⟨by decide +kernel, rfl⟩
theorem d_Mo_standOut_37 : j_D jm_Mo_standOut 37 (.getfield 22) 3 40 := ⟨by decide +kernel, rfl⟩
theorem d_Mo_standOut_40 : j_D jm_Mo_standOut 40 (.iload 5) 2 42 := ⟨by decide +kernel, rfl⟩
theorem d_Mo_standOut_42 : j_D jm_Mo_standOut 42 (.iload 6) 2 44 := ⟨by decide +kernel, rfl⟩
theorem d_Mo_standOut_44 : j_D jm_Mo_standOut 44 .iastore 1 45 := ⟨by decide +kernel, rfl⟩
theorem d_Mo_standOut_45 : j_D jm_Mo_standOut 45 (.iinc 5 1) 3 48 := ⟨by decide +kernel, rfl⟩
theorem d_Mo_standOut_48 : j_D jm_Mo_standOut 48 (.iinc 6 1) 3 51 := ⟨by decide +kernel, rfl⟩
theorem d_Mo_standOut_51 : j_E jm_Mo_standOut 51 .goto (-45) 54 6 := ⟨by decide +kernel, rfl, by decide⟩
theorem d_Mo_standOut_54 : j_D jm_Mo_standOut 54 (.iload_n 2) 1 55 := ⟨by decide +kernel, rfl⟩
theorem d_Mo_standOut_55 : j_D jm_Mo_standOut 55 (.istore 7) 2 57 := ⟨by decide +kernel, rfl⟩
theorem d_Mo_standOut_57 : j_D jm_Mo_standOut 57 (.iload 4) 2 59 := ⟨by decide +kernel, rfl⟩
theorem d_Mo_standOut_59 : j_D jm_Mo_standOut 59 (.istore 8) 2 61 := ⟨by decide +kernel, rfl⟩
theorem d_Mo_standOut_61 : j_D jm_Mo_standOut 61 (.iload 7) 2 63 := ⟨by decide +kernel, rfl⟩
theorem d_Mo_standOut_63 : j_D jm_Mo_standOut 63 (.iload 5) 2 65 := ⟨by decide +kernel, rfl⟩
theorem d_Mo_standOut_65 : j_E jm_Mo_standOut 65 (.if_icmp .le) 49 68 114 := ⟨by decide +kernel, rfl, by decide⟩
theorem d_Mo_standOut_68 : j_D jm_Mo_standOut 68 (.iload 8) 2 70 := ⟨by decide +kernel, rfl⟩
theorem d_Mo_standOut_70 : j_D jm_Mo_standOut 70 (.iload 6) 2 72 := ⟨by decide +kernel, rfl⟩
theorem d_Mo_standOut_72 : j_E jm_Mo_standOut 72 (.if_icmp .le) 42 75 114 := ⟨by decide +kernel, rfl, by decide⟩
theorem d_Mo_standOut_75 : j_D jm_Mo_standOut 75 (.aload_n 0) 1 76 := ⟨by decide +kernel, rfl⟩
theorem d_Mo_standOut_76 : j_D jm_Mo_standOut 76 (.getfield 16) 3 79 := ⟨by decide +kernel, rfl⟩
theorem d_Mo_standOut_79 : j_D jm_Mo_standOut 79 (.iload 7) 2 81 := ⟨by decide +kernel, rfl⟩
theorem d_Mo_standOut_81 : j_D jm_Mo_standOut 81 (.iconst 1) 1 82 := ⟨by decide +kernel, rfl⟩
theorem d_Mo_standOut_82 : j_D jm_Mo_standOut 82 .isub 1 83 := ⟨by decide +kernel, rfl⟩
theorem d_Mo_standOut_83 : j_D jm_Mo_standOut 83 .iaload 1 84 := ⟨by decide +kernel, rfl⟩
theorem d_Mo_standOut_84 : j_D jm_Mo_standOut 84 (.aload_n 0) 1 85 := ⟨by decide +kernel, rfl⟩
theorem d_Mo_standOut_85 : j_D jm_Mo_standOut 85 (.getfield 19) 3 88 := ⟨by decide +kernel, rfl⟩
theorem d_Mo_standOut_88 : j_D jm_Mo_standOut 88 (.iload 8) 2 90 := ⟨by decide +kernel, rfl⟩
theorem d_Mo_standOut_90 : j_D jm_Mo_standOut 90 (.iconst 1) 1 91 := ⟨by decide +kernel, rfl⟩
theorem d_Mo_standOut_91 : j_D jm_Mo_standOut 91 .isub 1 92 := ⟨by decide +kernel, rfl⟩
theorem d_Mo_standOut_92 : j_D jm_Mo_standOut 92 .iaload 1 93 := ⟨by decide +kernel, rfl⟩
theorem d_Mo_standOut_93 : j_E jm_Mo_standOut 93 (.if_icmp .ne) 21 96 114 := ⟨by decide +kernel, rfl, by decide⟩
theorem d_Mo_standOut_96 : j_D jm_Mo_standOut 96 (.iinc 7 (-1)) 3 99 := ⟨by decide +kernel, rfl⟩
theorem d_Mo_standOut_99 : j_D jm_Mo_standOut 99 (.iinc 8 (-1)) 3 102 := ⟨by decide +kernel, rfl⟩
theorem d_Mo_standOut_102 : j_D jm_Mo_standOut 102 (.aload_n 0) 1 103 := ⟨by decide +kernel, rfl⟩
theorem d_Mo_standOut_103 : j_D jm_Mo_standOut 103 (.getfield 22) 3 106 := ⟨by decide +kernel, rfl⟩
theorem d_Mo_standOut_106 : j_D jm_Mo_standOut 106 (.iload 7) 2 108 := ⟨by decide +kernel, rfl⟩
theorem d_Mo_standOut_108 : j_D jm_Mo_standOut 108 (.iload 8) 2 110 := ⟨by decide +kernel, rfl⟩
theorem d_Mo_standOut_110 : j_D jm_Mo_standOut 110 .iastore 1 111 := ⟨by decide +kernel, rfl⟩
theorem d_Mo_standOut_111 : j_E jm_Mo_standOut 111 .goto (-50) 114 61 := ⟨by decide +kernel, rfl, by decide⟩
theorem d_Mo_standOut_114 : j_D jm_Mo_standOut 114 (.aload_n 0) 1 115 := ⟨by decide +kernel, rfl⟩
theorem d_Mo_standOut_115 : j_D jm_Mo_standOut 115 (.iload 5) 2 117 := ⟨by decide +kernel, rfl⟩
theorem d_Mo_standOut_117 : j_D jm_Mo_standOut 117 (.iload 7) 2 119 := ⟨by decide +kernel, rfl⟩
theorem d_Mo_standOut_119 : j_D jm_Mo_standOut 119 (.iload 6) 2 121 := ⟨by decide +kernel, rfl⟩
theorem d_Mo_standOut_121 : j_D jm_Mo_standOut 121 (.iload 8) 2 123 := ⟨by decide +kernel, rfl⟩
theorem d_Mo_standOut_123 : j_D jm_Mo_standOut 123 (.invokevirtual 110) 3 126 := ⟨by decide +kernel, rfl⟩
theorem d_Mo_standOut_126 : j_D jm_Mo_standOut 126 (.istore 9) 2 128 := ⟨by decide +kernel, rfl⟩
theorem d_Mo_standOut_128 : j_D jm_Mo_standOut 128 (.iload 9) 2 130 := ⟨by decide +kernel, rfl⟩
theorem d_Mo_standOut_130 : j_E jm_Mo_standOut 130 (.ifCond .ne) 16 133 146 := ⟨by decide +kernel, rfl, by decide⟩
theorem d_Mo_standOut_133 : j_D jm_Mo_standOut 133 (.aload_n 0) 1 134 := ⟨by decide +kernel, rfl⟩
theorem d_Mo_standOut_134 : j_D jm_Mo_standOut 134 (.iload 5) 2 136 := ⟨by decide +kernel, rfl⟩
theorem d_Mo_standOut_136 : j_D jm_Mo_standOut 136 (.iload 7) 2 138 := ⟨by decide +kernel, rfl⟩
theorem d_Mo_standOut_138 : j_D jm_Mo_standOut 138 (.iload 6) 2 140 := ⟨by decide +kernel, rfl⟩
theorem d_Mo_standOut_140 : j_D jm_Mo_standOut 140 (.iload 8) 2 142 := ⟨by decide +kernel, rfl⟩
theorem d_Mo_standOut_142 : j_D jm_Mo_standOut 142 (.invokevirtual 114) 3 145 := ⟨by decide +kernel, rfl⟩
theorem d_Mo_standOut_145 : j_D jm_Mo_standOut 145 .return_ 1 146 := ⟨by decide +kernel, rfl⟩
theorem d_Mo_standOut_146 : j_D jm_Mo_standOut 146 (.iload 7) 2 148 := ⟨by decide +kernel, rfl⟩
theorem d_Mo_standOut_148 : j_D jm_Mo_standOut 148 (.istore 10) 2 150 := ⟨by decide +kernel, rfl⟩
theorem d_Mo_standOut_150 : j_D jm_Mo_standOut 150 (.iload 8) 2 152 := ⟨by decide +kernel, rfl⟩
theorem d_Mo_standOut_152 : j_D jm_Mo_standOut 152 (.istore 11) 2 154 := ⟨by decide +kernel, rfl⟩
theorem d_Mo_standOut_154 : j_D jm_Mo_standOut 154 (.iload 7) 2 156 := ⟨by decide +kernel, rfl⟩
theorem d_Mo_standOut_156 : j_D jm_Mo_standOut 156 (.iconst 1) 1 157 := ⟨by decide +kernel, rfl⟩
theorem d_Mo_standOut_157 : j_D jm_Mo_standOut 157 .isub 1 158 := ⟨by decide +kernel, rfl⟩
theorem d_Mo_standOut_158 : j_D jm_Mo_standOut 158 (.istore 12) 2 160 := ⟨by decide +kernel, rfl⟩
theorem d_Mo_standOut_160 : j_D jm_Mo_standOut 160 (.iload 12) 2 162 := ⟨by decide +kernel, rfl⟩
theorem d_Mo_standOut_162 : j_D jm_Mo_standOut 162 (.iload 5) 2 164 := ⟨by decide +kernel, rfl⟩
theorem d_Mo_standOut_164 : j_E jm_Mo_standOut 164 (.if_icmp .lt) 77 167 241 := ⟨by decide +kernel, rfl, by decide⟩
theorem d_Mo_standOut_167 : j_D jm_Mo_standOut 167 (.aload_n 0) 1 168 := ⟨by decide +kernel, rfl⟩
theorem d_Mo_standOut_168 : j_D jm_Mo_standOut 168 (.getfield 43) 3 171 := ⟨by decide +kernel, rfl⟩
theorem d_Mo_standOut_171 : j_D jm_Mo_standOut 171 (.iload 12) 2 173 := ⟨by decide +kernel, rfl⟩
theorem d_Mo_standOut_173 : j_D jm_Mo_standOut 173 .iaload 1 174 := ⟨by decide +kernel, rfl⟩
theorem d_Mo_standOut_174 : j_D jm_Mo_standOut 174 (.iload 9) 2 176 := ⟨by decide +kernel, rfl⟩
theorem d_Mo_standOut_176 : j_E jm_Mo_standOut 176 (.if_icmp .ne) 59 179 235 := ⟨by decide +kernel, rfl, by decide⟩
theorem d_Mo_standOut_179 : j_D jm_Mo_standOut 179 (.iload 9) 2 181 := ⟨by decide +kernel, rfl⟩
theorem d_Mo_standOut_181 : j_E jm_Mo_standOut 181 (.ifCond .le) 54 184 235 := ⟨by decide +kernel, rfl, by decide⟩
theorem d_Mo_standOut_184 : j_D jm_Mo_standOut 184 (.aload_n 0) 1 185 := ⟨by decide +kernel, rfl⟩
theorem d_Mo_standOut_185 : j_D jm_Mo_standOut 185 (.getfield 22) 3 188 := ⟨by decide +kernel, rfl⟩
theorem d_Mo_standOut_188 : j_D jm_Mo_standOut 188 (.iload 12) 2 190 := ⟨by decide +kernel, rfl⟩
theorem d_Mo_standOut_190 : j_D jm_Mo_standOut 190 (.aload_n 0) 1 191 := ⟨by decide +kernel, rfl⟩
theorem d_Mo_standOut_191 : j_D jm_Mo_standOut 191 (.getfield 40) 3 194 := ⟨by decide +kernel, rfl⟩
theorem d_Mo_standOut_194 : j_D jm_Mo_standOut 194 (.iload 12) 2 196 := ⟨by decide +kernel, rfl⟩
theorem d_Mo_standOut_196 : j_D jm_Mo_standOut 196 .iaload 1 197 := ⟨by decide +kernel, rfl⟩
theorem d_Mo_standOut_197 : j_D jm_Mo_standOut 197 .iastore 1 198 := ⟨by decide +kernel, rfl⟩
theorem d_Mo_standOut_198 : j_D jm_Mo_standOut 198 (.aload_n 0) 1 199 := ⟨by decide +kernel, rfl⟩
theorem d_Mo_standOut_199 : j_D jm_Mo_standOut 199 (.iload 12) 2 201 := ⟨by decide +kernel, rfl⟩
theorem d_Mo_standOut_201 : j_D jm_Mo_standOut 201 (.iconst 1) 1 202 := ⟨by decide +kernel, rfl⟩
theorem d_Mo_standOut_202 : j_D jm_Mo_standOut 202 .iadd 1 203 := ⟨by decide +kernel, rfl⟩
theorem d_Mo_standOut_203 : j_D jm_Mo_standOut 203 (.iload 10) 2 205 := ⟨by decide +kernel, rfl⟩
theorem d_Mo_standOut_205 : j_D jm_Mo_standOut 205 (.aload_n 0) 1 206 := ⟨by decide +kernel, rfl⟩
theorem d_Mo_standOut_206 : j_D jm_Mo_standOut 206 (.getfield 40) 3 209 := ⟨by decide +kernel, rfl⟩
theorem d_Mo_standOut_209 : j_D jm_Mo_standOut 209 (.iload 12) 2 211 := ⟨by decide +kernel, rfl⟩
theorem d_Mo_standOut_211 : j_D jm_Mo_standOut 211 .iaload 1 212 := ⟨by decide +kernel, rfl⟩
theorem d_Mo_standOut_212 : j_D jm_Mo_standOut 212 (.iconst 1) 1 213 := ⟨by decide +kernel, rfl⟩
theorem d_Mo_standOut_213 : j_D jm_Mo_standOut 213 .iadd 1 214 := ⟨by decide +kernel, rfl⟩
theorem d_Mo_standOut_214 : j_D jm_Mo_standOut 214 (.iload 11) 2 216 := ⟨by decide +kernel, rfl⟩
theorem d_Mo_standOut_216 : j_D jm_Mo_standOut 216 (.invokevirtual 118) 3 219 := ⟨by decide +kernel, rfl⟩
theorem d_Mo_standOut_219 : j_D jm_Mo_standOut 219 (.iload 12) 2 221 := ⟨by decide +kernel, rfl⟩
theorem d_Mo_standOut_221 : j_D jm_Mo_standOut 221 (.istore 10) 2 223 := ⟨by decide +kernel, rfl⟩
theorem d_Mo_standOut_223 : j_D jm_Mo_standOut 223 (.aload_n 0) 1 224 := ⟨by decide +kernel, rfl⟩
theorem d_Mo_standOut_224 : j_D jm_Mo_standOut 224 (.getfield 40) 3 227 := ⟨by decide +kernel, rfl⟩
theorem d_Mo_standOut_227 : j_D jm_Mo_standOut 227 (.iload 12) 2 229 := ⟨by decide +kernel, rfl⟩
theorem d_Mo_standOut_229 : j_D jm_Mo_standOut 229 .iaload 1 230 := ⟨by decide +kernel, rfl⟩
theorem d_Mo_standOut_230 : j_D jm_Mo_standOut 230 (.istore 11) 2 232 := ⟨by decide +kernel, rfl⟩
theorem d_Mo_standOut_232 : j_D jm_Mo_standOut 232 (.iinc 9 (-1)) 3 235 := ⟨by decide +kernel, rfl⟩
theorem d_Mo_standOut_235 : j_D jm_Mo_standOut 235 (.iinc 12 (-1)) 3 238 := ⟨by decide +kernel, rfl⟩
theorem d_Mo_standOut_238 : j_E jm_Mo_standOut 238 .goto (-78) 241 160 := ⟨by decide +kernel, rfl, by decide⟩
theorem d_Mo_standOut_241 : j_D jm_Mo_standOut 241 (.aload_n 0) 1 242 := ⟨by decide +kernel, rfl⟩
theorem d_Mo_standOut_242 : j_D jm_Mo_standOut 242 (.iload 5) 2 244 := ⟨by decide +kernel, rfl⟩
theorem d_Mo_standOut_244 : j_D jm_Mo_standOut 244 (.iload 10) 2 246 := ⟨by decide +kernel, rfl⟩
theorem d_Mo_standOut_246 : j_D jm_Mo_standOut 246 (.iload 6) 2 248 := ⟨by decide +kernel, rfl⟩
theorem d_Mo_standOut_248 : j_D jm_Mo_standOut 248 (.iload 11) 2 250 := ⟨by decide +kernel, rfl⟩
theorem d_Mo_standOut_250 : j_D jm_Mo_standOut 250 (.invokevirtual 118) 3 253 := ⟨by decide +kernel, rfl⟩
theorem d_Mo_standOut_253 : j_D jm_Mo_standOut 253 .return_ 1 254 := ⟨by decide +kernel, rfl⟩
theorem d_Mo_compareAll_0 : j_D jm_Mo_compareAll 0 (.iload_n 1) 1 1 := ⟨by decide +kernel, rfl⟩
theorem d_Mo_compareAll_1 : j_E jm_Mo_compareAll 1 (.ifCond .ne) 18 4 19 := ⟨by decide +kernel, rfl, by decide⟩
theorem d_Mo_compareAll_4 : j_D jm_Mo_compareAll 4 (.aload_n 0) 1 5 := ⟨by decide +kernel, rfl⟩
theorem d_Mo_compareAll_5 : j_D jm_Mo_compareAll 5 (.iconst 0) 1 6 := ⟨by decide +kernel, rfl⟩
theorem d_Mo_compareAll_6 : j_D jm_Mo_compareAll 6 (.aload_n 0) 1 7 := ⟨by decide +kernel, rfl⟩
theorem d_Mo_compareAll_7 : j_D jm_Mo_compareAll 7 (.getfield 96) 3 10 := ⟨by decide +kernel, rfl⟩
theorem d_Mo_compareAll_10 : j_D jm_Mo_compareAll 10 (.iconst 0) 1 11 := ⟨by decide +kernel, rfl⟩
theorem d_Mo_compareAll_11 : j_D jm_Mo_compareAll 11 (.aload_n 0) 1 12 := ⟨by decide +kernel, rfl⟩
theorem d_Mo_compareAll_12 : j_D jm_Mo_compareAll 12 (.getfield 100) 3 15 := ⟨by decide +kernel, rfl⟩
theorem d_Mo_compareAll_15 : j_D jm_Mo_compareAll 15 (.invokevirtual 114) 3 18 := ⟨by decide +kernel, rfl⟩
theorem d_Mo_compareAll_18 : j_D jm_Mo_compareAll 18 .return_ 1 19 := ⟨by decide +kernel, rfl⟩
theorem d_Mo_compareAll_19 : j_D jm_Mo_compareAll 19 (.aload_n 0) 1 20 := ⟨by decide +kernel, rfl⟩
theorem d_Mo_compareAll_20 : j_D jm_Mo_compareAll 20 (.iconst 0) 1 21 := ⟨by decide +kernel, rfl⟩
theorem d_Mo_compareAll_21 : j_D jm_Mo_compareAll 21 (.putfield 103) 3 24 := ⟨by decide +kernel, rfl⟩
theorem d_Mo_compareAll_24 : j_D jm_Mo_compareAll 24 (.aload_n 0) 1 25 := ⟨by decide +kernel, rfl⟩
theorem d_Mo_compareAll_25 : j_D jm_Mo_compareAll 25 (.iconst 0) 1 26 := ⟨by decide +kernel, rfl⟩
theorem d_Mo_compareAll_26 : j_D jm_Mo_compareAll 26 (.aload_n 0) 1 27 := ⟨by decide +kernel, rfl⟩
theorem d_Mo_compareAll_27 : j_D jm_Mo_compareAll 27 (.getfield 96) 3 30 := ⟨by decide +kernel, rfl⟩
theorem d_Mo_compareAll_30 : j_D jm_Mo_compareAll 30 (.iconst 0) 1 31 := ⟨by decide +kernel, rfl⟩
theorem d_Mo_compareAll_31 : j_D jm_Mo_compareAll 31 (.aload_n 0) 1 32 := ⟨by decide +kernel, rfl⟩
theorem d_Mo_compareAll_32 : j_D jm_Mo_compareAll 32 (.getfield 100) 3 35 := ⟨by decide +kernel, rfl⟩
theorem d_Mo_compareAll_35 : j_D jm_Mo_compareAll 35 (.invokevirtual 118) 3 38 := ⟨by decide +kernel, rfl⟩
theorem d_Mo_compareAll_38 : j_D jm_Mo_compareAll 38 (.aload_n 0) 1 39 := ⟨by decide +kernel, rfl⟩
theorem d_Mo_compareAll_39 : j_D jm_Mo_compareAll 39 (.getfield 103) 3 42 := ⟨by decide +kernel, rfl⟩
theorem d_Mo_compareAll_42 : j_E jm_Mo_compareAll 42 (.ifCond .le) 56 45 98 := ⟨by decide +kernel, rfl, by decide⟩
theorem d_Mo_compareAll_45 : j_D jm_Mo_compareAll 45 (.aload_n 0) 1 46 := ⟨by decide +kernel, rfl⟩
theorem d_Mo_compareAll_46 : j_D jm_Mo_compareAll 46 .dup 1 47 := ⟨by decide +kernel, rfl⟩
theorem d_Mo_compareAll_47 : j_D jm_Mo_compareAll 47 (.getfield 103) 3 50 := ⟨by decide +kernel, rfl⟩
theorem d_Mo_compareAll_50 : j_D jm_Mo_compareAll 50 (.iconst 1) 1 51 := ⟨by decide +kernel, rfl⟩
theorem d_Mo_compareAll_51 : j_D jm_Mo_compareAll 51 .isub 1 52 := ⟨by decide +kernel, rfl⟩
theorem d_Mo_compareAll_52 : j_D jm_Mo_compareAll 52 (.putfield 103) 3 55 := ⟨by decide +kernel, rfl⟩
theorem d_Mo_compareAll_55 : j_D jm_Mo_compareAll 55 (.aload_n 0) 1 56 := ⟨by decide +kernel, rfl⟩
theorem d_Mo_compareAll_56 : j_D jm_Mo_compareAll 56 (.aload_n 0) 1 57 := ⟨by decide +kernel, rfl⟩
theorem d_Mo_compareAll_57 : j_D jm_Mo_compareAll 57 (.getfield 28) 3 60 := ⟨by decide +kernel, rfl⟩
theorem d_Mo_compareAll_60 : j_D jm_Mo_compareAll 60 (.aload_n 0) 1 61 := ⟨by decide +kernel, rfl⟩
theorem d_Mo_compareAll_61 : j_D jm_Mo_compareAll 61 (.getfield 103) 3 64 := ⟨by decide +kernel, rfl⟩
theorem d_Mo_compareAll_64 : j_D jm_Mo_compareAll 64 .iaload 1 65 := ⟨by decide +kernel, rfl⟩
theorem d_Mo_compareAll_65 : j_D jm_Mo_compareAll 65 (.aload_n 0) 1 66 := ⟨by decide +kernel, rfl⟩
theorem d_Mo_compareAll_66 : j_D jm_Mo_compareAll 66 (.getfield 31) 3 69 := ⟨by decide +kernel, rfl⟩
theorem d_Mo_compareAll_69 : j_D jm_Mo_compareAll 69 (.aload_n 0) 1 70 := ⟨by decide +kernel, rfl⟩
theorem d_Mo_compareAll_70 : j_D jm_Mo_compareAll 70 (.getfield 103) 3 73 := ⟨by decide +kernel, rfl⟩
theorem d_Mo_compareAll_73 : j_D jm_Mo_compareAll 73 .iaload 1 74 := ⟨by decide +kernel, rfl⟩
theorem d_Mo_compareAll_74 : j_D jm_Mo_compareAll 74 (.aload_n 0) 1 75 := ⟨by decide +kernel, rfl⟩
theorem d_Mo_compareAll_75 : j_D jm_Mo_compareAll 75 (.getfield 34) 3 78 := ⟨by decide +kernel, rfl⟩
theorem d_Mo_compareAll_78 : j_D jm_Mo_compareAll 78 (.aload_n 0) 1 79 := ⟨by decide +kernel, rfl⟩
theorem d_Mo_compareAll_79 : j_D jm_Mo_compareAll 79 (.getfield 103) 3 82 := ⟨by decide +kernel, rfl⟩
theorem d_Mo_compareAll_82 : j_D jm_Mo_compareAll 82 .iaload 1 83 := ⟨by decide +kernel, rfl⟩
theorem d_Mo_compareAll_83 : j_D jm_Mo_compareAll 83 (.aload_n 0) 1 84 := ⟨by decide +kernel, rfl⟩
theorem d_Mo_compareAll_84 : j_D jm_Mo_compareAll 84 (.getfield 37) 3 87 := ⟨by decide +kernel, rfl⟩
theorem d_Mo_compareAll_87 : j_D jm_Mo_compareAll 87 (.aload_n 0) 1 88 := ⟨by decide +kernel, rfl⟩
theorem d_Mo_compareAll_88 : j_D jm_Mo_compareAll 88 (.getfield 103) 3 91 := ⟨by decide +kernel, rfl⟩
theorem d_Mo_compareAll_91 : j_D jm_Mo_compareAll 91 .iaload 1 92 := ⟨by decide +kernel, rfl⟩
theorem d_Mo_compareAll_92 : j_D jm_Mo_compareAll 92 (.invokevirtual 121) 3 95 := ⟨by decide +kernel, rfl⟩
theorem d_Mo_compareAll_95 : j_E jm_Mo_compareAll 95 .goto (-57) 98 38 := ⟨by decide +kernel, rfl, by decide⟩
theorem d_Mo_compareAll_98 : j_D jm_Mo_compareAll 98 .return_ 1 99 := ⟨by decide +kernel, rfl⟩
theorem d_Mo_compare_0 : j_D jm_Mo_compare 0 (.iload_n 1) 1 1 := ⟨by decide +kernel, rfl⟩
theorem d_Mo_compare_1 : j_D jm_Mo_compare 1 (.iconst 0) 1 2 := ⟨by decide +kernel, rfl⟩
theorem d_Mo_compare_2 : j_D jm_Mo_compare 2 (.iconst 3) 1 3 := ⟨by decide +kernel, rfl⟩
theorem d_Mo_compare_3 : j_D jm_Mo_compare 3 (.invokestatic 88) 3 6 := ⟨by decide +kernel, rfl⟩
theorem d_Mo_compare_6 : j_E jm_Mo_compare 6 (.ifCond .eq) 21 9 27 := ⟨by decide +kernel, rfl, by decide⟩
theorem d_Mo_compare_9 : j_D jm_Mo_compare 9 (.iload_n 2) 1 10 := ⟨by decide +kernel, rfl⟩
theorem d_Mo_compare_10 : j_D jm_Mo_compare 10 (.iconst 0) 1 11 := ⟨by decide +kernel, rfl⟩
theorem d_Mo_compare_11 : j_D jm_Mo_compare 11 (.iconst 3) 1 12 := ⟨by decide +kernel, rfl⟩
theorem d_Mo_compare_12 : j_D jm_Mo_compare 12 (.invokestatic 88) 3 15 := ⟨by decide +kernel, rfl⟩
theorem d_Mo_compare_15 : j_E jm_Mo_compare 15 (.ifCond .eq) 12 18 27 := ⟨by decide +kernel, rfl, by decide⟩
theorem d_Mo_compare_18 : j_D jm_Mo_compare 18 (.iload_n 3) 1 19 := ⟨by decide +kernel, rfl⟩
theorem d_Mo_compare_19 : j_D jm_Mo_compare 19 (.iconst 0) 1 20 := ⟨by decide +kernel, rfl⟩
theorem d_Mo_compare_20 : j_D jm_Mo_compare 20 (.iconst 1) 1 21 := ⟨by decide +kernel, rfl⟩
theorem d_Mo_compare_21 : j_D jm_Mo_compare 21 (.invokestatic 88) 3 24 := ⟨by decide +kernel, rfl⟩
theorem d_Mo_compare_24 : j_E jm_Mo_compare 24 (.ifCond .ne) 5 27 29 := ⟨by decide +kernel, rfl, by decide⟩
theorem d_Mo_compare_27 : j_D jm_Mo_compare 27 (.iconst (-1)) 1 28 := ⟨by decide +kernel, rfl⟩
theorem d_Mo_compare_28 : j_D jm_Mo_compare 28 .ireturn 1 29 := ⟨by decide +kernel, rfl⟩
theorem d_Mo_compare_29 : j_D jm_Mo_compare 29 (.aload_n 0) 1 30 := ⟨by decide +kernel, rfl⟩
theorem d_Mo_compare_30 : j_D jm_Mo_compare 30 (.iload_n 1) 1 31 := ⟨by decide +kernel, rfl⟩
theorem d_Mo_compare_31 : j_D jm_Mo_compare 31 (.invokevirtual 124) 3 34 := ⟨by decide +kernel, rfl⟩
theorem d_Mo_compare_34 : j_E jm_Mo_compare 34 (.ifCond .eq) 11 37 45 := ⟨by decide +kernel, rfl, by decide⟩
theorem d_Mo_compare_37 : j_D jm_Mo_compare 37 (.aload_n 0) 1 38 := ⟨by decide +kernel, rfl⟩
theorem d_Mo_compare_38 : j_D jm_Mo_compare 38 (.iload_n 2) 1 39 := ⟨by decide +kernel, rfl⟩
theorem d_Mo_compare_39 : j_D jm_Mo_compare 39 (.invokevirtual 124) 3 42 := ⟨by decide +kernel, rfl⟩
theorem d_Mo_compare_42 : j_E jm_Mo_compare 42 (.ifCond .ne) 6 45 48 := ⟨by decide +kernel, rfl, by decide⟩
theorem d_Mo_compare_45 : j_D jm_Mo_compare 45 (.bipush (-3)) 2 47 := ⟨by decide +kernel, rfl⟩
theorem d_Mo_compare_47 : j_D jm_Mo_compare 47 .ireturn 1 48 := ⟨by decide +kernel, rfl⟩
theorem d_Mo_compare_48 : j_D jm_Mo_compare 48 (.aload_n 0) 1 49 := ⟨by decide +kernel, rfl⟩
theorem d_Mo_compare_49 : j_D jm_Mo_compare 49 (.iload_n 1) 1 50 := ⟨by decide +kernel, rfl⟩
theorem d_Mo_compare_50 : j_D jm_Mo_compare 50 (.iload_n 2) 1 51 := ⟨by decide +kernel, rfl⟩
theorem d_Mo_compare_51 : j_D jm_Mo_compare 51 (.invokevirtual 127) 3 54 := ⟨by decide +kernel, rfl⟩
theorem d_Mo_compare_54 : j_D jm_Mo_compare 54 (.aload_n 0) 1 55 := ⟨by decide +kernel, rfl⟩
theorem d_Mo_compare_55 : j_D jm_Mo_compare 55 (.iload_n 3) 1 56 := ⟨by decide +kernel, rfl⟩
theorem d_Mo_compare_56 : j_D jm_Mo_compare 56 (.invokevirtual 131) 3 59 := ⟨by decide +kernel, rfl⟩
theorem d_Mo_compare_59 : j_D jm_Mo_compare 59 (.aload_n 0) 1 60 := ⟨by decide +kernel, rfl⟩
theorem d_Mo_compare_60 : j_D jm_Mo_compare 60 (.iconst 1) 1 61 := ⟨by decide +kernel, rfl⟩
theorem d_Mo_compare_61 : j_D jm_Mo_compare 61 (.putfield 135) 3 64 := ⟨by decide +kernel, rfl⟩
theorem d_Mo_compare_64 : j_D jm_Mo_compare 64 (.aload_n 0) 1 65 := ⟨by decide +kernel, rfl⟩
theorem d_Mo_compare_65 : j_D jm_Mo_compare 65 (.aload_n 0) 1 66 := ⟨by decide +kernel, rfl⟩
theorem d_Mo_compare_66 : j_D jm_Mo_compare 66 (.getfield 96) 3 69 := ⟨by decide +kernel, rfl⟩
theorem d_Mo_compare_69 : j_D jm_Mo_compare 69 (.putfield 139) 3 72 := ⟨by decide +kernel, rfl⟩
theorem d_Mo_compare_72 : j_D jm_Mo_compare 72 (.aload_n 0) 1 73 := ⟨by decide +kernel, rfl⟩
theorem d_Mo_compare_73 : j_D jm_Mo_compare 73 (.aload_n 0) 1 74 := ⟨by decide +kernel, rfl⟩
theorem d_Mo_compare_74 : j_D jm_Mo_compare 74 (.getfield 100) 3 77 := ⟨by decide +kernel, rfl⟩
theorem d_Mo_compare_77 : j_D jm_Mo_compare 77 (.putfield 142) 3 80 := ⟨by decide +kernel, rfl⟩
theorem d_Mo_compare_80 : j_D jm_Mo_compare 80 (.iconst 0) 1 81 := ⟨by decide +kernel, rfl⟩
theorem d_Mo_compare_81 : j_D jm_Mo_compare 81 (.istore 4) 2 83 := ⟨by decide +kernel, rfl⟩
theorem d_Mo_compare_83 : j_D jm_Mo_compare 83 (.iconst 0) 1 84 := ⟨by decide +kernel, rfl⟩
theorem d_Mo_compare_84 : j_D jm_Mo_compare 84 (.istore 5) 2 86 := ⟨by decide +kernel, rfl⟩
theorem d_Mo_compare_86 : j_D jm_Mo_compare 86 (.iload 5) 2 88 := ⟨by decide +kernel, rfl⟩
theorem d_Mo_compare_88 : j_D jm_Mo_compare 88 (.aload_n 0) 1 89 := ⟨by decide +kernel, rfl⟩
theorem d_Mo_compare_89 : j_D jm_Mo_compare 89 (.getfield 96) 3 92 := ⟨by decide +kernel, rfl⟩
theorem d_Mo_compare_92 : j_E jm_Mo_compare 92 (.if_icmp .ge) 58 95 150 := ⟨by decide +kernel, rfl, by decide⟩
theorem d_Mo_compare_95 : j_D jm_Mo_compare 95 (.aload_n 0) 1 96 := ⟨by decide +kernel, rfl⟩
theorem d_Mo_compare_96 : j_D jm_Mo_compare 96 (.getfield 46) 3 99 := ⟨by decide +kernel, rfl⟩
theorem d_Mo_compare_99 : j_D jm_Mo_compare 99 (.iload 5) 2 101 := ⟨by decide +kernel, rfl⟩
theorem d_Mo_compare_101 : j_D jm_Mo_compare 101 (.aload_n 0) 1 102 := ⟨by decide +kernel, rfl⟩
theorem d_Mo_compare_102 : j_D jm_Mo_compare 102 (.getfield 16) 3 105 := ⟨by decide +kernel, rfl⟩
theorem d_Mo_compare_105 : j_D jm_Mo_compare 105 (.iload 5) 2 107 := ⟨by decide +kernel, rfl⟩
theorem d_Mo_compare_107 : j_D jm_Mo_compare 107 .iaload 1 108 := ⟨by decide +kernel, rfl⟩
theorem d_Mo_compare_108 : j_D jm_Mo_compare 108 .iastore 1 109 := ⟨by decide +kernel, rfl⟩
theorem d_Mo_compare_109 : j_D jm_Mo_compare 109 (.aload_n 0) 1 110 := ⟨by decide +kernel, rfl⟩
theorem d_Mo_compare_110 : j_D jm_Mo_compare 110 (.getfield 52) 3 113 := ⟨by decide +kernel, rfl⟩
theorem d_Mo_compare_113 : j_D jm_Mo_compare 113 (.iload 5) 2 115 := ⟨by decide +kernel, rfl⟩
theorem d_Mo_compare_115 : j_D jm_Mo_compare 115 (.aload_n 0) 1 116 := ⟨by decide +kernel, rfl⟩
theorem d_Mo_compare_116 : j_D jm_Mo_compare 116 (.getfield 22) 3 119 := ⟨by decide +kernel, rfl⟩
theorem d_Mo_compare_119 : j_D jm_Mo_compare 119 (.iload 5) 2 121 := ⟨by decide +kernel, rfl⟩
theorem d_Mo_compare_121 : j_D jm_Mo_compare 121 .iaload 1 122 := ⟨by decide +kernel, rfl⟩
theorem d_Mo_compare_122 : j_D jm_Mo_compare 122 .iastore 1 123 := ⟨by decide +kernel, rfl⟩
theorem d_Mo_compare_123 : j_D jm_Mo_compare 123 (.aload_n 0) 1 124 := ⟨by decide +kernel, rfl⟩
theorem d_Mo_compare_124 : j_D jm_Mo_compare 124 (.getfield 22) 3 127 := ⟨by decide +kernel, rfl⟩
theorem d_Mo_compare_127 : j_D jm_Mo_compare 127 (.iload 5) 2 129 := ⟨by decide +kernel, rfl⟩
theorem d_Mo_compare_129 : j_D jm_Mo_compare 129 .iaload 1 130 := ⟨by decide +kernel, rfl⟩
theorem d_Mo_compare_130 : j_E jm_Mo_compare 130 (.ifCond .lt) 10 133 140 := ⟨by decide +kernel, rfl, by decide⟩
theorem d_Mo_compare_133 : j_D jm_Mo_compare 133 (.iload 4) 2 135 := ⟨by decide +kernel, rfl⟩
theorem d_Mo_compare_135 : j_D jm_Mo_compare 135 (.iconst 1) 1 136 := ⟨by decide +kernel, rfl⟩
theorem d_Mo_compare_136 : j_D jm_Mo_compare 136 .iadd 1 137 := ⟨by decide +kernel, rfl⟩
theorem d_Mo_compare_137 : j_E jm_Mo_compare 137 .goto 5 140 142 := ⟨by decide +kernel, rfl, by decide⟩
theorem d_Mo_compare_140 : j_D jm_Mo_compare 140 (.iload 4) 2 142 := ⟨by decide +kernel, rfl⟩
theorem d_Mo_compare_142 : j_D jm_Mo_compare 142 (.istore 4) 2 144 := ⟨by decide +kernel, rfl⟩
theorem d_Mo_compare_144 : j_D jm_Mo_compare 144 (.iinc 5 1) 3 147 := ⟨by decide +kernel, rfl⟩
theorem d_Mo_compare_147 : j_E jm_Mo_compare 147 .goto (-61) 150 86 := ⟨by decide +kernel, rfl, by decide⟩
theorem d_Mo_compare_150 : j_D jm_Mo_compare 150 (.iconst 0) 1 151 := ⟨by decide +kernel, rfl⟩
theorem d_Mo_compare_151 : j_D jm_Mo_compare 151 (.istore 5) 2 153 := ⟨by decide +kernel, rfl⟩
theorem d_Mo_compare_153 : j_D jm_Mo_compare 153 (.iload 5) 2 155 := ⟨by decide +kernel, rfl⟩
theorem d_Mo_compare_155 : j_D jm_Mo_compare 155 (.aload_n 0) 1 156 := ⟨by decide +kernel, rfl⟩
theorem d_Mo_compare_156 : j_D jm_Mo_compare 156 (.getfield 100) 3 159 := ⟨by decide +kernel, rfl⟩
theorem d_Mo_compare_159 : j_E jm_Mo_compare 159 (.if_icmp .ge) 23 162 182 := ⟨by decide +kernel, rfl, by decide⟩
theorem d_Mo_compare_162 : j_D jm_Mo_compare 162 (.aload_n 0) 1 163 := ⟨by decide +kernel, rfl⟩
theorem d_Mo_compare_163 : j_D jm_Mo_compare 163 (.getfield 49) 3 166 := ⟨by decide +kernel, rfl⟩
theorem d_Mo_compare_166 : j_D jm_Mo_compare 166 (.iload 5) 2 168 := ⟨by decide +kernel, rfl⟩
theorem d_Mo_compare_168 : j_D jm_Mo_compare 168 (.aload_n 0) 1 169 := ⟨by decide +kernel, rfl⟩
theorem d_Mo_compare_169 : j_D jm_Mo_compare 169 (.getfield 19) 3 172 := ⟨by decide +kernel, rfl⟩
theorem d_Mo_compare_172 : j_D jm_Mo_compare 172 (.iload 5) 2 174 := ⟨by decide +kernel, rfl⟩
theorem d_Mo_compare_174 : j_D jm_Mo_compare 174 .iaload 1 175 := ⟨by decide +kernel, rfl⟩
theorem d_Mo_compare_175 : j_D jm_Mo_compare 175 .iastore 1 176 := ⟨by decide +kernel, rfl⟩
theorem d_Mo_compare_176 : j_D jm_Mo_compare 176 (.iinc 5 1) 3 179 := ⟨by decide +kernel, rfl⟩
theorem d_Mo_compare_179 : j_E jm_Mo_compare 179 .goto (-26) 182 153 := ⟨by decide +kernel, rfl, by decide⟩
theorem d_Mo_compare_182 : j_D jm_Mo_compare 182 (.aload_n 0) 1 183 := ⟨by decide +kernel, rfl⟩
theorem d_Mo_compare_183 : j_D jm_Mo_compare 183 (.getfield 96) 3 186 := ⟨by decide +kernel, rfl⟩
theorem d_Mo_compare_186 : j_D jm_Mo_compare 186 (.aload_n 0) 1 187 := ⟨by decide +kernel, rfl⟩
theorem d_Mo_compare_187 : j_D jm_Mo_compare 187 (.getfield 100) 3 190 := ⟨by decide +kernel, rfl⟩
theorem d_Mo_compare_190 : j_D jm_Mo_compare 190 .iadd 1 191 := ⟨by decide +kernel, rfl⟩
theorem d_Mo_compare_191 : j_D jm_Mo_compare 191 (.iconst 2) 1 192 := ⟨by decide +kernel, rfl⟩
theorem d_Mo_compare_192 : j_D jm_Mo_compare 192 (.iload 4) 2 194 := ⟨by decide +kernel, rfl⟩
theorem d_Mo_compare_194 : j_D jm_Mo_compare 194 .imul 1 195 := ⟨by decide +kernel, rfl⟩
theorem d_Mo_compare_195 : j_D jm_Mo_compare 195 .isub 1 196 := ⟨by decide +kernel, rfl⟩
theorem d_Mo_compare_196 : j_D jm_Mo_compare 196 .ireturn 1 197 := ⟨by decide +kernel, rfl⟩
theorem d_Mo_match_0 : j_D jm_Mo_match 0 (.aload_n 0) 1 1 := ⟨by decide +kernel, rfl⟩
theorem d_Mo_match_1 : j_D jm_Mo_match 1 (.getfield 135) 3 4 := ⟨by decide +kernel, rfl⟩
theorem d_Mo_match_4 : j_E jm_Mo_match 4 (.ifCond .eq) 35 7 39 := ⟨by decide +kernel, rfl, by decide⟩
theorem d_Mo_match_7 : j_D jm_Mo_match 7 (.iload_n 1) 1 8 := ⟨by decide +kernel, rfl⟩
theorem d_Mo_match_8 : j_D jm_Mo_match 8 (.iconst 0) 1 9 := ⟨by decide +kernel, rfl⟩
theorem d_Mo_match_9 : j_D jm_Mo_match 9 (.aload_n 0) 1 10 := ⟨by decide +kernel, rfl⟩
theorem d_Mo_match_10 : j_D jm_Mo_match 10 (.getfield 139) 3 13 := ⟨by decide +kernel, rfl⟩
theorem d_Mo_match_13 : j_D jm_Mo_match 13 (.iconst 1) 1 14 := ⟨by decide +kernel, rfl⟩
theorem d_Mo_match_14 : j_D jm_Mo_match 14 .isub 1 15 := ⟨by decide +kernel, rfl⟩
theorem d_Mo_match_15 : j_D jm_Mo_match 15 (.invokestatic 88) 3 18 := ⟨by decide +kernel, rfl⟩
theorem d_Mo_match_18 : j_E jm_Mo_match 18 (.ifCond .eq) 21 21 39 := ⟨by decide +kernel, rfl, by decide⟩
theorem d_Mo_match_21 : j_D jm_Mo_match 21 (.aload_n 0) 1 22 := ⟨by decide +kernel, rfl⟩
theorem d_Mo_match_22 : j_D jm_Mo_match 22 (.getfield 52) 3 25 := ⟨by decide +kernel, rfl⟩
theorem d_Mo_match_25 : j_D jm_Mo_match 25 (.iload_n 1) 1 26 := ⟨by decide +kernel, rfl⟩
theorem d_Mo_match_26 : j_D jm_Mo_match 26 .iaload 1 27 := ⟨by decide +kernel, rfl⟩
theorem d_Mo_match_27 : j_E jm_Mo_match 27 (.ifCond .lt) 12 30 39 := ⟨by decide +kernel, rfl, by decide⟩
theorem d_Mo_match_30 : j_D jm_Mo_match 30 (.aload_n 0) 1 31 := ⟨by decide +kernel, rfl⟩
theorem d_Mo_match_31 : j_D jm_Mo_match 31 (.getfield 52) 3 34 := ⟨by decide +kernel, rfl⟩
theorem d_Mo_match_34 : j_D jm_Mo_match 34 (.iload_n 1) 1 35 := ⟨by decide +kernel, rfl⟩
theorem d_Mo_match_35 : j_D jm_Mo_match 35 .iaload 1 36 := ⟨by decide +kernel, rfl⟩
theorem d_Mo_match_36 : j_E jm_Mo_match 36 .goto 5 39 41 := ⟨by decide +kernel, rfl, by decide⟩
theorem d_Mo_match_39 : j_D jm_Mo_match 39 (.bipush (-3)) 2 41 := ⟨by decide +kernel, rfl⟩
theorem d_Mo_match_41 : j_D jm_Mo_match 41 .ireturn 1 42 := ⟨by decide +kernel, rfl⟩
theorem lc_Mo_within : j_Lc jm_Mo_within 3 := ⟨by decide +kernel, by decide +kernel, by decide, by decide +kernel, by decide⟩
theorem c_Mo_88 : j_Ls "LinePatcherModel" 88 jm_Mo_within 3 := ⟨Or.inl (by decide +kernel), by decide +kernel, rfl, lc_Mo_within⟩
theorem lc_Mo_isLetter : j_Lc jm_Mo_isLetter 1 := ⟨by decide +kernel, by decide +kernel, by decide, by decide +kernel, by decide⟩
theorem c_Mo_92 : j_Ls "LinePatcherModel" 92 jm_Mo_isLetter 1 := ⟨Or.inl (by decide +kernel), by decide +kernel, rfl, lc_Mo_isLetter⟩
theorem f_Mo_13 : j_F "LinePatcherModel" 13 8 1 1 true := ⟨rfl, _, "LinePatcherModel", rfl, by decide, rfl, Or.inl (by decide +kernel), Or.inl rfl⟩
theorem f_Mo_7 : j_F "LinePatcherModel" 7 8 0 0 true := ⟨rfl, _, "LinePatcherModel", rfl, by decide, rfl, Or.inl (by decide +kernel), Or.inl rfl⟩
theorem f_Mo_96 : j_F "LinePatcherModel" 96 8 2 2 false := ⟨rfl, _, "LinePatcherModel", rfl, by decide, rfl, Or.inl (by decide +kernel), Or.inl rfl⟩
theorem f_Mo_100 : j_F "LinePatcherModel" 100 8 3 3 false := ⟨rfl, _, "LinePatcherModel", rfl, by decide, rfl, Or.inl (by decide +kernel), Or.inl rfl⟩
theorem f_Mo_16 : j_F "LinePatcherModel" 16 8 4 4 true := ⟨rfl, _, "LinePatcherModel", rfl, by decide, rfl, Or.inl (by decide +kernel), Or.inl rfl⟩
theorem f_Mo_22 : j_F "LinePatcherModel" 22 8 6 6 true := ⟨rfl, _, "LinePatcherModel", rfl, by decide, rfl, Or.inl (by decide +kernel), Or.inl rfl⟩
theorem f_Mo_19 : j_F "LinePatcherModel" 19 8 5 5 true := ⟨rfl, _, "LinePatcherModel", rfl, by decide, rfl, Or.inl (by decide +kernel), Or.inl rfl⟩
theorem f_Mo_25 : j_F "LinePatcherModel" 25 8 7 7 true := ⟨rfl, _, "LinePatcherModel", rfl, by decide, rfl, Or.inl (by decide +kernel), Or.inl rfl⟩
theorem f_Mo_28 : j_F "LinePatcherModel" 28 8 9 9 true := ⟨rfl, _, "LinePatcherModel", rfl, by decide, rfl, Or.inl (by decide +kernel), Or.inl rfl⟩
theorem f_Mo_103 : j_F "LinePatcherModel" 103 8 8 8 false := ⟨rfl, _, "LinePatcherModel", rfl, by decide, rfl, Or.inl (by decide +kernel), Or.inl rfl⟩
theorem f_Mo_31 : j_F "LinePatcherModel" 31 8 10 10 true := ⟨rfl, _, "LinePatcherModel", rfl, by decide, rfl, Or.inl (by decide +kernel), Or.inl rfl⟩
theorem f_Mo_34 : j_F "LinePatcherModel" 34 8 11 11 true := ⟨rfl, _, "LinePatcherModel", rfl, by decide, rfl, Or.inl (by decide +kernel), Or.inl rfl⟩
theorem f_Mo_37 : j_F "LinePatcherModel" 37 8 12 12 true := ⟨rfl, _, "LinePatcherModel", rfl, by decide, rfl, Or.inl (by decide +kernel), Or.inl rfl⟩
theorem f_Mo_40 : j_F "LinePatcherModel" 40 8 13 13 true := ⟨rfl, _, "LinePatcherModel", rfl, by decide, rfl, Or.inl (by decide +kernel), Or.inl rfl⟩
theorem lc_Mo_partner : j_Lc jm_Mo_partner 5 := ⟨by decide +kernel, by decide +kernel, by decide, by decide +kernel, by decide⟩
theorem c_Mo_106 : j_Lv "LinePatcherModel" 106 8 jm_Mo_partner 5 := ⟨by decide +kernel, by decide +kernel, ⟨_, rfl, by decide +kernel⟩, lc_Mo_partner⟩
theorem f_Mo_43 : j_F "LinePatcherModel" 43 8 14 14 true := ⟨rfl, _, "LinePatcherModel", rfl, by decide, rfl, Or.inl (by decide +kernel), Or.inl rfl⟩
theorem lc_Mo_findRanks : j_Lc jm_Mo_findRanks 4 := ⟨by decide +kernel, by decide +kernel, by decide, by decide +kernel, by decide⟩
theorem c_Mo_110 : j_Lv "LinePatcherModel" 110 8 jm_Mo_findRanks 4 := ⟨by decide +kernel, by decide +kernel, ⟨_, rfl, by decide +kernel⟩, lc_Mo_findRanks⟩
theorem lc_Mo_compareShort : j_Lc jm_Mo_compareShort 4 := ⟨by decide +kernel, by decide +kernel, by decide, by decide +kernel, by decide⟩
theorem c_Mo_114 : j_Lv "LinePatcherModel" 114 8 jm_Mo_compareShort 4 := ⟨by decide +kernel, by decide +kernel, ⟨_, rfl, by decide +kernel⟩, lc_Mo_compareShort⟩
theorem lc_Mo_await : j_Lc jm_Mo_await 4 := ⟨by decide +kernel, by decide +kernel, by decide, by decide +kernel, by decide⟩
theorem c_Mo_118 : j_Lv "LinePatcherModel" 118 8 jm_Mo_await 4 := ⟨by decide +kernel, by decide +kernel, ⟨_, rfl, by decide +kernel⟩, lc_Mo_await⟩
theorem lc_Mo_standOut : j_Lc jm_Mo_standOut 4 := ⟨by decide +kernel, by decide +kernel, by decide, by decide +kernel, by decide⟩
theorem c_Mo_121 : j_Lv "LinePatcherModel" 121 8 jm_Mo_standOut 4 := ⟨by decide +kernel, by decide +kernel, ⟨_, rfl, by decide +kernel⟩, lc_Mo_standOut⟩
theorem lc_Mo_allLetters : j_Lc jm_Mo_allLetters 1 := ⟨by decide +kernel, by decide +kernel, by decide, by decide +kernel, by decide⟩
theorem c_Mo_124 : j_Lv "LinePatcherModel" 124 8 jm_Mo_allLetters 1 := ⟨by decide +kernel, by decide +kernel, ⟨_, rfl, by decide +kernel⟩, lc_Mo_allLetters⟩
theorem lc_Mo_take : j_Lc jm_Mo_take 2 := ⟨by decide +kernel, by decide +kernel, by decide, by decide +kernel, by decide⟩
theorem c_Mo_127 : j_Lv "LinePatcherModel" 127 8 jm_Mo_take 2 := ⟨by decide +kernel, by decide +kernel, ⟨_, rfl, by decide +kernel⟩, lc_Mo_take⟩
theorem lc_Mo_compareAll : j_Lc jm_Mo_compareAll 1 := ⟨by decide +kernel, by decide +kernel, by decide, by decide +kernel, by decide⟩
theorem c_Mo_131 : j_Lv "LinePatcherModel" 131 8 jm_Mo_compareAll 1 := ⟨by decide +kernel, by decide +kernel, ⟨_, rfl, by decide +kernel⟩, lc_Mo_compareAll⟩
theorem f_Mo_135 : j_F "LinePatcherModel" 135 8 15 15 false := ⟨rfl, _, "LinePatcherModel", rfl, by decide, rfl, Or.inl (by decide +kernel), Or.inl rfl⟩
theorem f_Mo_139 : j_F "LinePatcherModel" 139 8 16 16 false := ⟨rfl, _, "LinePatcherModel", rfl, by decide, rfl, Or.inl (by decide +kernel), Or.inl rfl⟩
theorem f_Mo_142 : j_F "LinePatcherModel" 142 8 17 17 false := ⟨rfl, _, "LinePatcherModel", rfl, by decide, rfl, Or.inl (by decide +kernel), Or.inl rfl⟩
theorem f_Mo_46 : j_F "LinePatcherModel" 46 8 18 18 true := ⟨rfl, _, "LinePatcherModel", rfl, by decide, rfl, Or.inl (by decide +kernel), Or.inl rfl⟩
theorem f_Mo_52 : j_F "LinePatcherModel" 52 8 20 20 true := ⟨rfl, _, "LinePatcherModel", rfl, by decide, rfl, Or.inl (by decide +kernel), Or.inl rfl⟩
theorem f_Mo_49 : j_F "LinePatcherModel" 49 8 19 19 true := ⟨rfl, _, "LinePatcherModel", rfl, by decide, rfl, Or.inl (by decide +kernel), Or.inl rfl⟩
theorem s_Mo_within_0 {G : j_G} {d B S N : Nat} {K : Nat → Option (Nat × Nat)} {M : Nat → Int → Int} {g : Nat → Int → Option Nat} {Q : j_O → j_S → Prop} {x0 x1 x2 : Int} (r1 : -2147483648 ≤ x0 ∧ x0 ≤ 2147483647 := by omega) (r2 : -2147483648 ≤ x1 ∧ x1 ≤ 2147483647 := by omega) (k1 : x0 < x1 → Q (.inl (some (ji_ 0))) (N, K, M, g)) (k2 : x1 ≤ x0 → j_J G jm_Mo_within d B S 5 [ji_ x0, ji_ x1, ji_ x2] [] (N, K, M, g) Q) : j_J G jm_Mo_within d B S 0 [ji_ x0, ji_ x1, ji_ x2] [] (N, K, M, g) Q :=
  j_iload_n d_Mo_within_0 rfl <| j_iload_n d_Mo_within_1 rfl <| j_icmp_lt d_Mo_within_2 r1 r2 (fun h => j_iconst d_Mo_within_14 <| j_zreturn' d_Mo_within_15 rfl (Or.inl rfl) <| k1 h) k2
theorem s_Mo_within_5 {G : j_G} {d B S N : Nat} {K : Nat → Option (Nat × Nat)} {M : Nat → Int → Int} {g : Nat → Int → Option Nat} {Q : j_O → j_S → Prop} {x0 x1 x2 : Int} (r1 : -2147483648 ≤ x0 ∧ x0 ≤ 2147483647 := by omega) (r2 : -2147483648 ≤ x2 ∧ x2 ≤ 2147483647 := by omega) (k1 : x2 < x0 → Q (.inl (some (ji_ 0))) (N, K, M, g)) (k2 : x0 ≤ x2 → Q (.inl (some (ji_ 1))) (N, K, M, g)) : j_J G jm_Mo_within d B S 5 [ji_ x0, ji_ x1, ji_ x2] [] (N, K, M, g) Q :=
  j_iload_n d_Mo_within_5 rfl <| j_iload_n d_Mo_within_6 rfl <| j_icmp_gt d_Mo_within_7 r1 r2 (fun h => j_iconst d_Mo_within_14 <| j_zreturn' d_Mo_within_15 rfl (Or.inl rfl) <| k1 h) (fun h => j_iconst d_Mo_within_10 <| j_goto d_Mo_within_11 <| j_zreturn' d_Mo_within_15 rfl (Or.inr rfl) <| k2 h)
theorem s_Mo_within_10 {G : j_G} {d B S N : Nat} {K : Nat → Option (Nat × Nat)} {M : Nat → Int → Int} {g : Nat → Int → Option Nat} {Q : j_O → j_S → Prop} {x0 x1 x2 : Int}  (k1 : Q (.inl (some (ji_ 1))) (N, K, M, g)) : j_J G jm_Mo_within d B S 10 [ji_ x0, ji_ x1, ji_ x2] [] (N, K, M, g) Q :=
  j_iconst d_Mo_within_10 <| j_goto d_Mo_within_11 (j_zreturn' d_Mo_within_15 rfl (Or.inr rfl) <| k1)
theorem s_Mo_within_14 {G : j_G} {d B S N : Nat} {K : Nat → Option (Nat × Nat)} {M : Nat → Int → Int} {g : Nat → Int → Option Nat} {Q : j_O → j_S → Prop} {x0 x1 x2 : Int}  (k1 : Q (.inl (some (ji_ 0))) (N, K, M, g)) : j_J G jm_Mo_within d B S 14 [ji_ x0, ji_ x1, ji_ x2] [] (N, K, M, g) Q :=
  j_iconst d_Mo_within_14 <| (j_zreturn' d_Mo_within_15 rfl (Or.inl rfl) <| k1)
theorem s_Mo_within_15 {G : j_G} {d B S N : Nat} {K : Nat → Option (Nat × Nat)} {M : Nat → Int → Int} {g : Nat → Int → Option Nat} {Q : j_O → j_S → Prop} {x0 x1 x2 t0 : Int} (hz1 : t0 = 0 ∨ t0 = 1) (k1 : Q (.inl (some (ji_ t0))) (N, K, M, g)) : j_J G jm_Mo_within d B S 15 [ji_ x0, ji_ x1, ji_ x2] [ji_ t0] (N, K, M, g) Q :=
  j_zreturn' d_Mo_within_15 rfl hz1 k1
theorem s_Mo_isLetter_0 {G : j_G} {d B S N : Nat} {K : Nat → Option (Nat × Nat)} {M : Nat → Int → Int} {g : Nat → Int → Option Nat} {Q : j_O → j_S → Prop} {x0 : Int} {q : Int → (Nat → Int → Int) → Prop} (hC : j_Ct G jm_Mo_within d 0 0 [ji_ x0, ji_ 97, ji_ 122] (N, K, M, g) (j_pI N K g q)) (k1 : ∀ z M', q z M' → j_J G jm_Mo_isLetter (d + 1) B S 8 [ji_ x0] [ji_ z] (N, K, M', g) Q) : j_J G jm_Mo_isLetter (d + 1) B S 0 [ji_ x0] [] (N, K, M, g) Q :=
  j_iload_n d_Mo_isLetter_0 rfl <| j_bipush d_Mo_isLetter_1 (by decide) <| j_bipush d_Mo_isLetter_3 (by decide) <| j_aSI (as := [ji_ x0, ji_ 97, ji_ 122]) (rest := []) d_Mo_isLetter_5 c_Mo_88 rfl (Nat.le_of_ble_eq_true rfl) hC k1
theorem s_Mo_isLetter_8 {G : j_G} {d B S N : Nat} {K : Nat → Option (Nat × Nat)} {M : Nat → Int → Int} {g : Nat → Int → Option Nat} {Q : j_O → j_S → Prop} {x0 t0 : Int} (hz1 : t0 = 0 ∨ t0 = 1) (k1 : Q (.inl (some (ji_ t0))) (N, K, M, g)) : j_J G jm_Mo_isLetter d B S 8 [ji_ x0] [ji_ t0] (N, K, M, g) Q :=
  j_zreturn' d_Mo_isLetter_8 rfl hz1 k1
theorem s_Mo_add_0 {G : j_G} {d B S N : Nat} {K : Nat → Option (Nat × Nat)} {M : Nat → Int → Int} {g : Nat → Int → Option Nat} {Q : j_O → j_S → Prop} {a0 : Nat} {x1 x4 : Int} {l2 : Int64} {u3 u5 u6 : j_V} {q : Int → (Nat → Int → Int) → Prop} (hC : j_Ct G jm_Mo_within d 0 0 [ji_ x1, ji_ 0, ji_ 3] (N, K, M, g) (j_pI N K g q)) (k1 : ∀ z M', q z M' → j_J G jm_Mo_add (d + 1) B S 6 [jr_ a0, ji_ x1, jl_ l2, u3, ji_ x4, u5, u6] [ji_ z] (N, K, M', g) Q) : j_J G jm_Mo_add (d + 1) B S 0 [jr_ a0, ji_ x1, jl_ l2, u3, ji_ x4, u5, u6] [] (N, K, M, g) Q :=
  j_iload_n d_Mo_add_0 rfl <| j_iconst d_Mo_add_1 <| j_iconst d_Mo_add_2 <| j_aSI (as := [ji_ x1, ji_ 0, ji_ 3]) (rest := []) d_Mo_add_3 c_Mo_88 rfl (Nat.le_of_ble_eq_true rfl) hC k1
theorem s_Mo_add_6 {G : j_G} {d B S N : Nat} {K : Nat → Option (Nat × Nat)} {M : Nat → Int → Int} {g : Nat → Int → Option Nat} {Q : j_O → j_S → Prop} {a0 : Nat} {x1 x4 t0 : Int} {l2 : Int64} {u3 u5 u6 : j_V} (r1 : -2147483648 ≤ t0 ∧ t0 ≤ 2147483647 := by omega) (k1 : t0 = 0 → j_J G jm_Mo_add d B S 30 [jr_ a0, ji_ x1, jl_ l2, u3, ji_ x4, ji_ 0, ji_ 0] [] (N, K, M, g) Q) (k2 : t0 ≠ 0 → j_J G jm_Mo_add d B S 9 [jr_ a0, ji_ x1, jl_ l2, u3, ji_ x4, u5, u6] [] (N, K, M, g) Q) : j_J G jm_Mo_add d B S 6 [jr_ a0, ji_ x1, jl_ l2, u3, ji_ x4, u5, u6] [ji_ t0] (N, K, M, g) Q :=
  j_if_eq d_Mo_add_6 r1 (fun h => j_iconst d_Mo_add_24 <| j_istore d_Mo_add_25 rfl rfl <| j_iconst d_Mo_add_27 <| j_istore d_Mo_add_28 rfl rfl <| k1 h) k2
theorem s_Mo_add_9 {G : j_G} {d B S N : Nat} {K : Nat → Option (Nat × Nat)} {M : Nat → Int → Int} {g : Nat → Int → Option Nat} {Q : j_O → j_S → Prop} {a0 : Nat} {x1 x4 : Int} {l2 : Int64} {u3 u5 u6 : j_V} {q : Int → (Nat → Int → Int) → Prop} (hC : j_Ct G jm_Mo_within d 0 0 [ji_ x4, ji_ 1, ji_ 8] (N, K, M, g) (j_pI N K g q)) (k1 : ∀ z M', q z M' → j_J G jm_Mo_add (d + 1) B S 17 [jr_ a0, ji_ x1, jl_ l2, u3, ji_ x4, u5, u6] [ji_ z] (N, K, M', g) Q) : j_J G jm_Mo_add (d + 1) B S 9 [jr_ a0, ji_ x1, jl_ l2, u3, ji_ x4, u5, u6] [] (N, K, M, g) Q :=
  j_iload d_Mo_add_9 rfl <| j_iconst d_Mo_add_11 <| j_bipush d_Mo_add_12 (by decide) <| j_aSI (as := [ji_ x4, ji_ 1, ji_ 8]) (rest := []) d_Mo_add_14 c_Mo_88 rfl (Nat.le_of_ble_eq_true rfl) hC k1
theorem s_Mo_add_17 {G : j_G} {d B S N : Nat} {K : Nat → Option (Nat × Nat)} {M : Nat → Int → Int} {g : Nat → Int → Option Nat} {Q : j_O → j_S → Prop} {a0 : Nat} {x1 x4 t0 : Int} {l2 : Int64} {u3 u5 u6 : j_V} (r1 : -2147483648 ≤ t0 ∧ t0 ≤ 2147483647 := by omega) (k1 : t0 = 0 → j_J G jm_Mo_add d B S 30 [jr_ a0, ji_ x1, jl_ l2, u3, ji_ x4, ji_ 0, ji_ 0] [] (N, K, M, g) Q) (k2 : t0 ≠ 0 → j_J G jm_Mo_add d B S 30 [jr_ a0, ji_ x1, jl_ l2, u3, ji_ x4, ji_ 1, ji_ 0] [] (N, K, M, g) Q) : j_J G jm_Mo_add d B S 17 [jr_ a0, ji_ x1, jl_ l2, u3, ji_ x4, u5, u6] [ji_ t0] (N, K, M, g) Q :=
  j_if_eq d_Mo_add_17 r1 (fun h => j_iconst d_Mo_add_24 <| j_istore d_Mo_add_25 rfl rfl <| j_iconst d_Mo_add_27 <| j_istore d_Mo_add_28 rfl rfl <| k1 h) (fun h => j_iconst d_Mo_add_20 <| j_goto d_Mo_add_21 <| j_istore d_Mo_add_25 rfl rfl <| j_iconst d_Mo_add_27 <| j_istore d_Mo_add_28 rfl rfl <| k2 h)
theorem s_Mo_add_20 {G : j_G} {d B S N : Nat} {K : Nat → Option (Nat × Nat)} {M : Nat → Int → Int} {g : Nat → Int → Option Nat} {Q : j_O → j_S → Prop} {a0 : Nat} {x1 x4 : Int} {l2 : Int64} {u3 u5 u6 : j_V}  (k1 : j_J G jm_Mo_add d B S 30 [jr_ a0, ji_ x1, jl_ l2, u3, ji_ x4, ji_ 1, ji_ 0] [] (N, K, M, g) Q) : j_J G jm_Mo_add d B S 20 [jr_ a0, ji_ x1, jl_ l2, u3, ji_ x4, u5, u6] [] (N, K, M, g) Q :=
  j_iconst d_Mo_add_20 <| j_goto d_Mo_add_21 (j_istore d_Mo_add_25 rfl rfl <| j_iconst d_Mo_add_27 <| j_istore d_Mo_add_28 rfl rfl <| k1)
theorem s_Mo_add_24 {G : j_G} {d B S N : Nat} {K : Nat → Option (Nat × Nat)} {M : Nat → Int → Int} {g : Nat → Int → Option Nat} {Q : j_O → j_S → Prop} {a0 : Nat} {x1 x4 : Int} {l2 : Int64} {u3 u5 u6 : j_V}  (k1 : j_J G jm_Mo_add d B S 30 [jr_ a0, ji_ x1, jl_ l2, u3, ji_ x4, ji_ 0, ji_ 0] [] (N, K, M, g) Q) : j_J G jm_Mo_add d B S 24 [jr_ a0, ji_ x1, jl_ l2, u3, ji_ x4, u5, u6] [] (N, K, M, g) Q :=
  j_iconst d_Mo_add_24 <| (j_istore d_Mo_add_25 rfl rfl <| j_iconst d_Mo_add_27 <| j_istore d_Mo_add_28 rfl rfl <| k1)
theorem s_Mo_add_25 {G : j_G} {d B S N : Nat} {K : Nat → Option (Nat × Nat)} {M : Nat → Int → Int} {g : Nat → Int → Option Nat} {Q : j_O → j_S → Prop} {a0 : Nat} {x1 x4 t0 : Int} {l2 : Int64} {u3 u5 u6 : j_V}  (k1 : j_J G jm_Mo_add d B S 30 [jr_ a0, ji_ x1, jl_ l2, u3, ji_ x4, ji_ t0, ji_ 0] [] (N, K, M, g) Q) : j_J G jm_Mo_add d B S 25 [jr_ a0, ji_ x1, jl_ l2, u3, ji_ x4, u5, u6] [ji_ t0] (N, K, M, g) Q :=
  j_istore d_Mo_add_25 rfl rfl <| j_iconst d_Mo_add_27 <| j_istore d_Mo_add_28 rfl rfl <| k1
theorem s_Mo_add_30 {G : j_G} {d B S N : Nat} {K : Nat → Option (Nat × Nat)} {M : Nat → Int → Int} {g : Nat → Int → Option Nat} {Q : j_O → j_S → Prop} {a0 : Nat} {x1 x4 x5 x6 : Int} {l2 : Int64} {u3 : j_V} (r1 : -2147483648 ≤ x6 ∧ x6 ≤ 2147483647 := by omega) (r2 : -2147483648 ≤ x4 ∧ x4 ≤ 2147483647 := by omega) (k1 : x4 ≤ x6 → j_J G jm_Mo_add d B S 65 [jr_ a0, ji_ x1, jl_ l2, u3, ji_ x4, ji_ x5, ji_ x6] [] (N, K, M, g) Q) (k2 : x6 < x4 → j_J G jm_Mo_add d B S 37 [jr_ a0, ji_ x1, jl_ l2, u3, ji_ x4, ji_ x5, ji_ x6] [] (N, K, M, g) Q) : j_J G jm_Mo_add d B S 30 [jr_ a0, ji_ x1, jl_ l2, u3, ji_ x4, ji_ x5, ji_ x6] [] (N, K, M, g) Q :=
  j_iload d_Mo_add_30 rfl <| j_iload d_Mo_add_32 rfl <| j_icmp_ge d_Mo_add_34 r1 r2 k1 k2
theorem s_Mo_add_37 {G : j_G} {d B S N : Nat} {K : Nat → Option (Nat × Nat)} {M : Nat → Int → Int} {g : Nat → Int → Option Nat} {Q : j_O → j_S → Prop} {a0 : Nat} {x1 x4 x5 x6 : Int} {l2 : Int64} {u3 : j_V} (r1 : -2147483648 ≤ x5 ∧ x5 ≤ 2147483647 := by omega) (k1 : x5 = 0 → j_J G jm_Mo_add d B S 65 [jr_ a0, ji_ x1, jl_ l2, u3, ji_ x4, ji_ x5, ji_ x6] [] (N, K, M, g) Q) (k2 : x5 ≠ 0 → j_J G jm_Mo_add d B S 42 [jr_ a0, ji_ x1, jl_ l2, u3, ji_ x4, ji_ x5, ji_ x6] [] (N, K, M, g) Q) : j_J G jm_Mo_add d B S 37 [jr_ a0, ji_ x1, jl_ l2, u3, ji_ x4, ji_ x5, ji_ x6] [] (N, K, M, g) Q :=
  j_iload d_Mo_add_37 rfl <| j_if_eq d_Mo_add_39 r1 k1 k2
theorem s_Mo_add_42 {G : j_G} {d B S N : Nat} {K : Nat → Option (Nat × Nat)} {M : Nat → Int → Int} {g : Nat → Int → Option Nat} {Q : j_O → j_S → Prop} {a0 : Nat} {x1 x4 x5 x6 : Int} {l2 : Int64} {u3 : j_V} {q : Int → (Nat → Int → Int) → Prop} (hC : j_Ct G jm_Mo_isLetter d 0 0 [ji_ (((l2 >>> ((Int32.ofInt (8 * x6)).toInt64 &&& 63)).toInt32.toInt) % 2 ^ 8)] (N, K, M, g) (j_pI N K g q)) (k1 : ∀ z M', q z M' → j_J G jm_Mo_add (d + 1) B S 57 [jr_ a0, ji_ x1, jl_ l2, u3, ji_ x4, ji_ x5, ji_ x6] [ji_ z] (N, K, M', g) Q) : j_J G jm_Mo_add (d + 1) B S 42 [jr_ a0, ji_ x1, jl_ l2, u3, ji_ x4, ji_ x5, ji_ x6] [] (N, K, M, g) Q :=
  j_lload_n d_Mo_add_42 rfl <| j_bipush d_Mo_add_43 (by decide) <| j_iload d_Mo_add_45 rfl <| j_imul d_Mo_add_47 <| j_lshr d_Mo_add_48 <| j_l2i d_Mo_add_49 <| j_sipush d_Mo_add_50 (by decide) <| j_iandM 8 d_Mo_add_53 (by decide) (by decide) <| j_aSI (as := [ji_ (((l2 >>> ((Int32.ofInt (8 * x6)).toInt64 &&& 63)).toInt32.toInt) % 2 ^ 8)]) (rest := []) d_Mo_add_54 c_Mo_92 rfl (Nat.le_of_ble_eq_true rfl) hC k1
theorem s_Mo_add_57 {G : j_G} {d B S N : Nat} {K : Nat → Option (Nat × Nat)} {M : Nat → Int → Int} {g : Nat → Int → Option Nat} {Q : j_O → j_S → Prop} {a0 : Nat} {x1 x4 x5 x6 t0 : Int} {l2 : Int64} {u3 : j_V}  (k1 : j_J G jm_Mo_add d B S 30 [jr_ a0, ji_ x1, jl_ l2, u3, ji_ x4, ji_ t0, ji_ (x6 + 1)] [] (N, K, M, g) Q) : j_J G jm_Mo_add d B S 57 [jr_ a0, ji_ x1, jl_ l2, u3, ji_ x4, ji_ x5, ji_ x6] [ji_ t0] (N, K, M, g) Q :=
  j_istore d_Mo_add_57 rfl rfl <| j_iinc d_Mo_add_59 rfl rfl rfl <| j_goto d_Mo_add_62 k1
theorem s_Mo_add_65 {G : j_G} {d B S N : Nat} {K : Nat → Option (Nat × Nat)} {M : Nat → Int → Int} {g : Nat → Int → Option Nat} {Q : j_O → j_S → Prop} {a0 : Nat} {x1 x4 x5 x6 : Int} {l2 : Int64} {u3 : j_V} (r1 : -2147483648 ≤ x5 ∧ x5 ≤ 2147483647 := by omega) (k1 : x5 ≠ 0 → j_J G jm_Mo_add d B S 72 [jr_ a0, ji_ x1, jl_ l2, u3, ji_ x4, ji_ x5, ji_ x6] [] (N, K, M, g) Q) (k2 : x5 = 0 → Q (.inl (some (ji_ (-1)))) (N, K, M, g)) : j_J G jm_Mo_add d B S 65 [jr_ a0, ji_ x1, jl_ l2, u3, ji_ x4, ji_ x5, ji_ x6] [] (N, K, M, g) Q :=
  j_iload d_Mo_add_65 rfl <| j_if_ne d_Mo_add_67 r1 k1 (fun h => j_iconst d_Mo_add_70 <| j_ireturn d_Mo_add_71 rfl <| k2 h)
theorem s_Mo_add_70 {G : j_G} {d B S N : Nat} {K : Nat → Option (Nat × Nat)} {M : Nat → Int → Int} {g : Nat → Int → Option Nat} {Q : j_O → j_S → Prop} {a0 : Nat} {x1 x4 x5 x6 : Int} {l2 : Int64} {u3 : j_V}  (k1 : Q (.inl (some (ji_ (-1)))) (N, K, M, g)) : j_J G jm_Mo_add d B S 70 [jr_ a0, ji_ x1, jl_ l2, u3, ji_ x4, ji_ x5, ji_ x6] [] (N, K, M, g) Q :=
  j_iconst d_Mo_add_70 <| j_ireturn d_Mo_add_71 rfl k1
theorem s_Mo_add_72 {G : j_G} {d B S N : Nat} {K : Nat → Option (Nat × Nat)} {M : Nat → Int → Int} {g : Nat → Int → Option Nat} {Q : j_O → j_S → Prop} {a0 y1 n2 : Nat} {x1 x4 x5 x6 : Int} {l2 : Int64} {u3 : j_V} (hk1 : K a0 = some (0, 8)) (hg2 : g a0 1 = some y1) (hk2 : K y1 = some (1, n2)) (r3 : 0 ≤ x1 := by omega) (r3' : x1 < (n2 : Int) := by omega) (r4 : -2147483648 ≤ ((M y1 x1) + x4) ∧ ((M y1 x1) + x4) ≤ 2147483647 := by omega) (k1 : ((M y1 x1) + x4) ≤ 24 → j_J G jm_Mo_add d B S 95 [jr_ a0, ji_ x1, jl_ l2, u3, ji_ x4, ji_ x5, ji_ (x4 - 1)] [] (N, K, M, g) Q) (k2 : 24 < ((M y1 x1) + x4) → Q (.inl (some (ji_ (-2)))) (N, K, M, g)) : j_J G jm_Mo_add d B S 72 [jr_ a0, ji_ x1, jl_ l2, u3, ji_ x4, ji_ x5, ji_ x6] [] (N, K, M, g) Q :=
  j_aload_n d_Mo_add_72 rfl <| j_getR d_Mo_add_73 f_Mo_13 hk1 hg2 <| j_iload_n d_Mo_add_76 rfl <| j_iald d_Mo_add_77 hk2 r3 r3' <| j_iload d_Mo_add_78 rfl <| j_iadd d_Mo_add_80 <| j_bipush d_Mo_add_81 (by decide) <| j_icmp_le d_Mo_add_83 r4 (by decide) (fun h => j_iload d_Mo_add_89 rfl <| j_iconst d_Mo_add_91 <| j_isub d_Mo_add_92 <| j_istore d_Mo_add_93 rfl rfl <| k1 h) (fun h => j_bipush d_Mo_add_86 (by decide) <| j_ireturn d_Mo_add_88 rfl <| k2 h)
theorem s_Mo_add_86 {G : j_G} {d B S N : Nat} {K : Nat → Option (Nat × Nat)} {M : Nat → Int → Int} {g : Nat → Int → Option Nat} {Q : j_O → j_S → Prop} {a0 : Nat} {x1 x4 x5 x6 : Int} {l2 : Int64} {u3 : j_V}  (k1 : Q (.inl (some (ji_ (-2)))) (N, K, M, g)) : j_J G jm_Mo_add d B S 86 [jr_ a0, ji_ x1, jl_ l2, u3, ji_ x4, ji_ x5, ji_ x6] [] (N, K, M, g) Q :=
  j_bipush d_Mo_add_86 (by decide) <| j_ireturn d_Mo_add_88 rfl k1
theorem s_Mo_add_89 {G : j_G} {d B S N : Nat} {K : Nat → Option (Nat × Nat)} {M : Nat → Int → Int} {g : Nat → Int → Option Nat} {Q : j_O → j_S → Prop} {a0 : Nat} {x1 x4 x5 x6 : Int} {l2 : Int64} {u3 : j_V}  (k1 : j_J G jm_Mo_add d B S 95 [jr_ a0, ji_ x1, jl_ l2, u3, ji_ x4, ji_ x5, ji_ (x4 - 1)] [] (N, K, M, g) Q) : j_J G jm_Mo_add d B S 89 [jr_ a0, ji_ x1, jl_ l2, u3, ji_ x4, ji_ x5, ji_ x6] [] (N, K, M, g) Q :=
  j_iload d_Mo_add_89 rfl <| j_iconst d_Mo_add_91 <| j_isub d_Mo_add_92 <| j_istore d_Mo_add_93 rfl rfl <| k1
theorem s_Mo_add_95 {G : j_G} {d B S N : Nat} {K : Nat → Option (Nat × Nat)} {M : Nat → Int → Int} {g : Nat → Int → Option Nat} {Q : j_O → j_S → Prop} {a0 : Nat} {x1 x4 x5 x6 : Int} {l2 : Int64} {u3 : j_V} (r1 : -2147483648 ≤ x6 ∧ x6 ≤ 2147483647 := by omega) (k1 : x6 < 0 → j_J G jm_Mo_add d B S 148 [jr_ a0, ji_ x1, jl_ l2, u3, ji_ x4, ji_ x5, ji_ x6] [] (N, K, M, g) Q) (k2 : 0 ≤ x6 → j_J G jm_Mo_add d B S 100 [jr_ a0, ji_ x1, jl_ l2, u3, ji_ x4, ji_ x5, ji_ x6] [] (N, K, M, g) Q) : j_J G jm_Mo_add d B S 95 [jr_ a0, ji_ x1, jl_ l2, u3, ji_ x4, ji_ x5, ji_ x6] [] (N, K, M, g) Q :=
  j_iload d_Mo_add_95 rfl <| j_if_lt d_Mo_add_97 r1 k1 k2
theorem s_Mo_add_100 {G : j_G} {d B S N : Nat} {K : Nat → Option (Nat × Nat)} {M : Nat → Int → Int} {g : Nat → Int → Option Nat} {Q : j_O → j_S → Prop} {a0 y1 y3 n2 n3 : Nat} {x1 x4 x5 x6 : Int} {l2 : Int64} {u3 : j_V} (hk1 : K a0 = some (0, 8)) (hg2 : g a0 0 = some y1) (hg4 : g a0 1 = some y3) (hk2 : K y3 = some (1, n2)) (r5 : 0 ≤ x1 := by omega) (r5' : x1 < (n2 : Int) := by omega) (hk3 : K y1 = some (1, n3)) (r6 : 0 ≤ ((24 * x1) + (M y3 x1)) := by omega) (r6' : ((24 * x1) + (M y3 x1)) < (n3 : Int) := by omega) (r7 : 0 ≤ x1 := by omega) (r7' : x1 < (n2 : Int) := by omega) (r8 : 0 ≤ x1 := by omega) (r8' : x1 < (n2 : Int) := by omega) (k1 : j_J G jm_Mo_add d B S 95 [jr_ a0, ji_ x1, jl_ l2, u3, ji_ x4, ji_ x5, ji_ (x6 + (-1))] [] (N, K, (j_up (j_up M y1 ((24 * x1) + (M y3 x1)) (((l2 >>> ((Int32.ofInt (8 * x6)).toInt64 &&& 63)).toInt32.toInt) % 2 ^ 8)) y3 x1 (((j_up M y1 ((24 * x1) + (M y3 x1)) (((l2 >>> ((Int32.ofInt (8 * x6)).toInt64 &&& 63)).toInt32.toInt) % 2 ^ 8)) y3 x1) + 1)), g) Q) : j_J G jm_Mo_add d B S 100 [jr_ a0, ji_ x1, jl_ l2, u3, ji_ x4, ji_ x5, ji_ x6] [] (N, K, M, g) Q :=
  j_aload_n d_Mo_add_100 rfl <| j_getR d_Mo_add_101 f_Mo_7 hk1 hg2 <| j_bipush d_Mo_add_104 (by decide) <| j_iload_n d_Mo_add_106 rfl <| j_imul d_Mo_add_107 <| j_aload_n d_Mo_add_108 rfl <| j_getR d_Mo_add_109 f_Mo_13 hk1 hg4 <| j_iload_n d_Mo_add_112 rfl <| j_iald d_Mo_add_113 hk2 r5 r5' <| j_iadd d_Mo_add_114 <| j_lload_n d_Mo_add_115 rfl <| j_bipush d_Mo_add_116 (by decide) <| j_iload d_Mo_add_118 rfl <| j_imul d_Mo_add_120 <| j_lshr d_Mo_add_121 <| j_l2i d_Mo_add_122 <| j_sipush d_Mo_add_123 (by decide) <| j_iandM 8 d_Mo_add_126 (by decide) (by decide) <| j_iast d_Mo_add_127 hk3 r6 r6' <| j_aload_n d_Mo_add_128 rfl <| j_getR d_Mo_add_129 f_Mo_13 hk1 hg4 <| j_iload_n d_Mo_add_132 rfl <| j_aload_n d_Mo_add_133 rfl <| j_getR d_Mo_add_134 f_Mo_13 hk1 hg4 <| j_iload_n d_Mo_add_137 rfl <| j_iald d_Mo_add_138 hk2 r7 r7' <| j_iconst d_Mo_add_139 <| j_iadd d_Mo_add_140 <| j_iast d_Mo_add_141 hk2 r8 r8' <| j_iinc d_Mo_add_142 rfl rfl rfl <| j_goto d_Mo_add_145 k1
theorem s_Mo_add_148 {G : j_G} {d B S N : Nat} {K : Nat → Option (Nat × Nat)} {M : Nat → Int → Int} {g : Nat → Int → Option Nat} {Q : j_O → j_S → Prop} {a0 y1 n2 : Nat} {x1 x4 x5 x6 : Int} {l2 : Int64} {u3 : j_V} (hk1 : K a0 = some (0, 8)) (hg2 : g a0 1 = some y1) (hk2 : K y1 = some (1, n2)) (r3 : 0 ≤ x1 := by omega) (r3' : x1 < (n2 : Int) := by omega) (k1 : Q (.inl (some (ji_ (M y1 x1)))) (N, K, M, g)) : j_J G jm_Mo_add d B S 148 [jr_ a0, ji_ x1, jl_ l2, u3, ji_ x4, ji_ x5, ji_ x6] [] (N, K, M, g) Q :=
  j_aload_n d_Mo_add_148 rfl <| j_getR d_Mo_add_149 f_Mo_13 hk1 hg2 <| j_iload_n d_Mo_add_152 rfl <| j_iald d_Mo_add_153 hk2 r3 r3' <| j_ireturn d_Mo_add_154 rfl k1
theorem s_Mo_clear_0 {G : j_G} {d B S N : Nat} {K : Nat → Option (Nat × Nat)} {M : Nat → Int → Int} {g : Nat → Int → Option Nat} {Q : j_O → j_S → Prop} {a0 : Nat} {x1 : Int} {u2 : j_V} {q : Int → (Nat → Int → Int) → Prop} (hC : j_Ct G jm_Mo_within d 0 0 [ji_ x1, ji_ 0, ji_ 3] (N, K, M, g) (j_pI N K g q)) (k1 : ∀ z M', q z M' → j_J G jm_Mo_clear (d + 1) B S 6 [jr_ a0, ji_ x1, u2] [ji_ z] (N, K, M', g) Q) : j_J G jm_Mo_clear (d + 1) B S 0 [jr_ a0, ji_ x1, u2] [] (N, K, M, g) Q :=
  j_iload_n d_Mo_clear_0 rfl <| j_iconst d_Mo_clear_1 <| j_iconst d_Mo_clear_2 <| j_aSI (as := [ji_ x1, ji_ 0, ji_ 3]) (rest := []) d_Mo_clear_3 c_Mo_88 rfl (Nat.le_of_ble_eq_true rfl) hC k1
theorem s_Mo_clear_6 {G : j_G} {d B S N : Nat} {K : Nat → Option (Nat × Nat)} {M : Nat → Int → Int} {g : Nat → Int → Option Nat} {Q : j_O → j_S → Prop} {a0 : Nat} {x1 t0 : Int} {u2 : j_V} (r1 : -2147483648 ≤ t0 ∧ t0 ≤ 2147483647 := by omega) (k1 : t0 ≠ 0 → j_J G jm_Mo_clear d B S 11 [jr_ a0, ji_ x1, u2] [] (N, K, M, g) Q) (k2 : t0 = 0 → Q (.inl (some (ji_ (-1)))) (N, K, M, g)) : j_J G jm_Mo_clear d B S 6 [jr_ a0, ji_ x1, u2] [ji_ t0] (N, K, M, g) Q :=
  j_if_ne d_Mo_clear_6 r1 k1 (fun h => j_iconst d_Mo_clear_9 <| j_ireturn d_Mo_clear_10 rfl <| k2 h)
theorem s_Mo_clear_9 {G : j_G} {d B S N : Nat} {K : Nat → Option (Nat × Nat)} {M : Nat → Int → Int} {g : Nat → Int → Option Nat} {Q : j_O → j_S → Prop} {a0 : Nat} {x1 : Int} {u2 : j_V}  (k1 : Q (.inl (some (ji_ (-1)))) (N, K, M, g)) : j_J G jm_Mo_clear d B S 9 [jr_ a0, ji_ x1, u2] [] (N, K, M, g) Q :=
  j_iconst d_Mo_clear_9 <| j_ireturn d_Mo_clear_10 rfl k1
theorem s_Mo_clear_11 {G : j_G} {d B S N : Nat} {K : Nat → Option (Nat × Nat)} {M : Nat → Int → Int} {g : Nat → Int → Option Nat} {Q : j_O → j_S → Prop} {a0 y1 n2 : Nat} {x1 : Int} {u2 : j_V} (hk1 : K a0 = some (0, 8)) (hg2 : g a0 1 = some y1) (hk2 : K y1 = some (1, n2)) (r3 : 0 ≤ x1 := by omega) (r3' : x1 < (n2 : Int) := by omega) (r4 : 0 ≤ x1 := by omega) (r4' : x1 < (n2 : Int) := by omega) (k1 : Q (.inl (some (ji_ (M y1 x1)))) (N, K, (j_up M y1 x1 0), g)) : j_J G jm_Mo_clear d B S 11 [jr_ a0, ji_ x1, u2] [] (N, K, M, g) Q :=
  j_aload_n d_Mo_clear_11 rfl <| j_getR d_Mo_clear_12 f_Mo_13 hk1 hg2 <| j_iload_n d_Mo_clear_15 rfl <| j_iald d_Mo_clear_16 hk2 r3 r3' <| j_istore_n d_Mo_clear_17 rfl rfl <| j_aload_n d_Mo_clear_18 rfl <| j_getR d_Mo_clear_19 f_Mo_13 hk1 hg2 <| j_iload_n d_Mo_clear_22 rfl <| j_iconst d_Mo_clear_23 <| j_iast d_Mo_clear_24 hk2 r4 r4' <| j_iload_n d_Mo_clear_25 rfl <| j_ireturn d_Mo_clear_26 rfl k1
theorem s_Mo_size_0 {G : j_G} {d B S N : Nat} {K : Nat → Option (Nat × Nat)} {M : Nat → Int → Int} {g : Nat → Int → Option Nat} {Q : j_O → j_S → Prop} {a0 : Nat} {x1 : Int} {q : Int → (Nat → Int → Int) → Prop} (hC : j_Ct G jm_Mo_within d 0 0 [ji_ x1, ji_ 0, ji_ 3] (N, K, M, g) (j_pI N K g q)) (k1 : ∀ z M', q z M' → j_J G jm_Mo_size (d + 1) B S 6 [jr_ a0, ji_ x1] [ji_ z] (N, K, M', g) Q) : j_J G jm_Mo_size (d + 1) B S 0 [jr_ a0, ji_ x1] [] (N, K, M, g) Q :=
  j_iload_n d_Mo_size_0 rfl <| j_iconst d_Mo_size_1 <| j_iconst d_Mo_size_2 <| j_aSI (as := [ji_ x1, ji_ 0, ji_ 3]) (rest := []) d_Mo_size_3 c_Mo_88 rfl (Nat.le_of_ble_eq_true rfl) hC k1
theorem s_Mo_size_6 {G : j_G} {d B S N : Nat} {K : Nat → Option (Nat × Nat)} {M : Nat → Int → Int} {g : Nat → Int → Option Nat} {Q : j_O → j_S → Prop} {a0 : Nat} {x1 t0 : Int} (r1 : -2147483648 ≤ t0 ∧ t0 ≤ 2147483647 := by omega) (k1 : t0 = 0 → Q (.inl (some (ji_ (-1)))) (N, K, M, g)) (k2 : t0 ≠ 0 → j_J G jm_Mo_size d B S 9 [jr_ a0, ji_ x1] [] (N, K, M, g) Q) : j_J G jm_Mo_size d B S 6 [jr_ a0, ji_ x1] [ji_ t0] (N, K, M, g) Q :=
  j_if_eq d_Mo_size_6 r1 (fun h => j_iconst d_Mo_size_18 <| j_ireturn d_Mo_size_19 rfl <| k1 h) k2
theorem s_Mo_size_9 {G : j_G} {d B S N : Nat} {K : Nat → Option (Nat × Nat)} {M : Nat → Int → Int} {g : Nat → Int → Option Nat} {Q : j_O → j_S → Prop} {a0 y1 n2 : Nat} {x1 : Int} (hk1 : K a0 = some (0, 8)) (hg2 : g a0 1 = some y1) (hk2 : K y1 = some (1, n2)) (r3 : 0 ≤ x1 := by omega) (r3' : x1 < (n2 : Int) := by omega) (k1 : Q (.inl (some (ji_ (M y1 x1)))) (N, K, M, g)) : j_J G jm_Mo_size d B S 9 [jr_ a0, ji_ x1] [] (N, K, M, g) Q :=
  j_aload_n d_Mo_size_9 rfl <| j_getR d_Mo_size_10 f_Mo_13 hk1 hg2 <| j_iload_n d_Mo_size_13 rfl <| j_iald d_Mo_size_14 hk2 r3 r3' <| j_goto d_Mo_size_15 (j_ireturn d_Mo_size_19 rfl <| k1)
theorem s_Mo_size_18 {G : j_G} {d B S N : Nat} {K : Nat → Option (Nat × Nat)} {M : Nat → Int → Int} {g : Nat → Int → Option Nat} {Q : j_O → j_S → Prop} {a0 : Nat} {x1 : Int}  (k1 : Q (.inl (some (ji_ (-1)))) (N, K, M, g)) : j_J G jm_Mo_size d B S 18 [jr_ a0, ji_ x1] [] (N, K, M, g) Q :=
  j_iconst d_Mo_size_18 <| (j_ireturn d_Mo_size_19 rfl <| k1)
theorem s_Mo_size_19 {G : j_G} {d B S N : Nat} {K : Nat → Option (Nat × Nat)} {M : Nat → Int → Int} {g : Nat → Int → Option Nat} {Q : j_O → j_S → Prop} {a0 : Nat} {x1 t0 : Int}  (k1 : Q (.inl (some (ji_ t0))) (N, K, M, g)) : j_J G jm_Mo_size d B S 19 [jr_ a0, ji_ x1] [ji_ t0] (N, K, M, g) Q :=
  j_ireturn d_Mo_size_19 rfl k1
theorem s_Mo_line_0 {G : j_G} {d B S N : Nat} {K : Nat → Option (Nat × Nat)} {M : Nat → Int → Int} {g : Nat → Int → Option Nat} {Q : j_O → j_S → Prop} {a0 : Nat} {x1 x2 : Int} {q : Int → (Nat → Int → Int) → Prop} (hC : j_Ct G jm_Mo_within d 0 0 [ji_ x1, ji_ 0, ji_ 3] (N, K, M, g) (j_pI N K g q)) (k1 : ∀ z M', q z M' → j_J G jm_Mo_line (d + 1) B S 6 [jr_ a0, ji_ x1, ji_ x2] [ji_ z] (N, K, M', g) Q) : j_J G jm_Mo_line (d + 1) B S 0 [jr_ a0, ji_ x1, ji_ x2] [] (N, K, M, g) Q :=
  j_iload_n d_Mo_line_0 rfl <| j_iconst d_Mo_line_1 <| j_iconst d_Mo_line_2 <| j_aSI (as := [ji_ x1, ji_ 0, ji_ 3]) (rest := []) d_Mo_line_3 c_Mo_88 rfl (Nat.le_of_ble_eq_true rfl) hC k1
theorem s_Mo_line_6 {G : j_G} {d B S N : Nat} {K : Nat → Option (Nat × Nat)} {M : Nat → Int → Int} {g : Nat → Int → Option Nat} {Q : j_O → j_S → Prop} {a0 : Nat} {x1 x2 t0 : Int} (r1 : -2147483648 ≤ t0 ∧ t0 ≤ 2147483647 := by omega) (k1 : t0 ≠ 0 → j_J G jm_Mo_line d B S 13 [jr_ a0, ji_ x1, ji_ x2] [] (N, K, M, g) Q) (k2 : t0 = 0 → Q (.inl (some (ji_ (-1)))) (N, K, M, g)) : j_J G jm_Mo_line d B S 6 [jr_ a0, ji_ x1, ji_ x2] [ji_ t0] (N, K, M, g) Q :=
  j_if_ne d_Mo_line_6 r1 k1 (fun h => j_iconst d_Mo_line_9 <| j_goto d_Mo_line_10 <| j_ireturn d_Mo_line_45 rfl <| k2 h)
theorem s_Mo_line_9 {G : j_G} {d B S N : Nat} {K : Nat → Option (Nat × Nat)} {M : Nat → Int → Int} {g : Nat → Int → Option Nat} {Q : j_O → j_S → Prop} {a0 : Nat} {x1 x2 : Int}  (k1 : Q (.inl (some (ji_ (-1)))) (N, K, M, g)) : j_J G jm_Mo_line d B S 9 [jr_ a0, ji_ x1, ji_ x2] [] (N, K, M, g) Q :=
  j_iconst d_Mo_line_9 <| j_goto d_Mo_line_10 (j_ireturn d_Mo_line_45 rfl <| k1)
theorem s_Mo_line_13 {G : j_G} {d B S N : Nat} {K : Nat → Option (Nat × Nat)} {M : Nat → Int → Int} {g : Nat → Int → Option Nat} {Q : j_O → j_S → Prop} {a0 y1 n2 : Nat} {x1 x2 : Int} {q : Int → (Nat → Int → Int) → Prop} (hk1 : K a0 = some (0, 8)) (hg2 : g a0 1 = some y1) (hk2 : K y1 = some (1, n2)) (r3 : 0 ≤ x1 := by omega) (r3' : x1 < (n2 : Int) := by omega) (hC : j_Ct G jm_Mo_within d 0 0 [ji_ x2, ji_ 0, ji_ ((M y1 x1) - 1)] (N, K, M, g) (j_pI N K g q)) (k1 : ∀ z M', q z M' → j_J G jm_Mo_line (d + 1) B S 26 [jr_ a0, ji_ x1, ji_ x2] [ji_ z] (N, K, M', g) Q) : j_J G jm_Mo_line (d + 1) B S 13 [jr_ a0, ji_ x1, ji_ x2] [] (N, K, M, g) Q :=
  j_iload_n d_Mo_line_13 rfl <| j_iconst d_Mo_line_14 <| j_aload_n d_Mo_line_15 rfl <| j_getR d_Mo_line_16 f_Mo_13 hk1 hg2 <| j_iload_n d_Mo_line_19 rfl <| j_iald d_Mo_line_20 hk2 r3 r3' <| j_iconst d_Mo_line_21 <| j_isub d_Mo_line_22 <| j_aSI (as := [ji_ x2, ji_ 0, ji_ ((M y1 x1) - 1)]) (rest := []) d_Mo_line_23 c_Mo_88 rfl (Nat.le_of_ble_eq_true rfl) hC k1
theorem s_Mo_line_26 {G : j_G} {d B S N : Nat} {K : Nat → Option (Nat × Nat)} {M : Nat → Int → Int} {g : Nat → Int → Option Nat} {Q : j_O → j_S → Prop} {a0 : Nat} {x1 x2 t0 : Int} (r1 : -2147483648 ≤ t0 ∧ t0 ≤ 2147483647 := by omega) (k1 : t0 = 0 → Q (.inl (some (ji_ (-3)))) (N, K, M, g)) (k2 : t0 ≠ 0 → j_J G jm_Mo_line d B S 29 [jr_ a0, ji_ x1, ji_ x2] [] (N, K, M, g) Q) : j_J G jm_Mo_line d B S 26 [jr_ a0, ji_ x1, ji_ x2] [ji_ t0] (N, K, M, g) Q :=
  j_if_eq d_Mo_line_26 r1 (fun h => j_bipush d_Mo_line_43 (by decide) <| j_ireturn d_Mo_line_45 rfl <| k1 h) k2
theorem s_Mo_line_29 {G : j_G} {d B S N : Nat} {K : Nat → Option (Nat × Nat)} {M : Nat → Int → Int} {g : Nat → Int → Option Nat} {Q : j_O → j_S → Prop} {a0 y1 n2 : Nat} {x1 x2 : Int} (hk1 : K a0 = some (0, 8)) (hg2 : g a0 0 = some y1) (hk2 : K y1 = some (1, n2)) (r3 : 0 ≤ ((24 * x1) + x2) := by omega) (r3' : ((24 * x1) + x2) < (n2 : Int) := by omega) (k1 : Q (.inl (some (ji_ (M y1 ((24 * x1) + x2))))) (N, K, M, g)) : j_J G jm_Mo_line d B S 29 [jr_ a0, ji_ x1, ji_ x2] [] (N, K, M, g) Q :=
  j_aload_n d_Mo_line_29 rfl <| j_getR d_Mo_line_30 f_Mo_7 hk1 hg2 <| j_bipush d_Mo_line_33 (by decide) <| j_iload_n d_Mo_line_35 rfl <| j_imul d_Mo_line_36 <| j_iload_n d_Mo_line_37 rfl <| j_iadd d_Mo_line_38 <| j_iald d_Mo_line_39 hk2 r3 r3' <| j_goto d_Mo_line_40 (j_ireturn d_Mo_line_45 rfl <| k1)
theorem s_Mo_line_43 {G : j_G} {d B S N : Nat} {K : Nat → Option (Nat × Nat)} {M : Nat → Int → Int} {g : Nat → Int → Option Nat} {Q : j_O → j_S → Prop} {a0 : Nat} {x1 x2 : Int}  (k1 : Q (.inl (some (ji_ (-3)))) (N, K, M, g)) : j_J G jm_Mo_line d B S 43 [jr_ a0, ji_ x1, ji_ x2] [] (N, K, M, g) Q :=
  j_bipush d_Mo_line_43 (by decide) <| (j_ireturn d_Mo_line_45 rfl <| k1)
theorem s_Mo_line_45 {G : j_G} {d B S N : Nat} {K : Nat → Option (Nat × Nat)} {M : Nat → Int → Int} {g : Nat → Int → Option Nat} {Q : j_O → j_S → Prop} {a0 : Nat} {x1 x2 t0 : Int}  (k1 : Q (.inl (some (ji_ t0))) (N, K, M, g)) : j_J G jm_Mo_line d B S 45 [jr_ a0, ji_ x1, ji_ x2] [ji_ t0] (N, K, M, g) Q :=
  j_ireturn d_Mo_line_45 rfl k1
theorem s_Mo_allLetters_0 {G : j_G} {d B S N : Nat} {K : Nat → Option (Nat × Nat)} {M : Nat → Int → Int} {g : Nat → Int → Option Nat} {Q : j_O → j_S → Prop} {a0 : Nat} {x1 : Int} {u2 u3 : j_V}  (k1 : j_J G jm_Mo_allLetters d B S 4 [jr_ a0, ji_ x1, ji_ 1, ji_ 0] [] (N, K, M, g) Q) : j_J G jm_Mo_allLetters d B S 0 [jr_ a0, ji_ x1, u2, u3] [] (N, K, M, g) Q :=
  j_iconst d_Mo_allLetters_0 <| j_istore_n d_Mo_allLetters_1 rfl rfl <| j_iconst d_Mo_allLetters_2 <| j_istore_n d_Mo_allLetters_3 rfl rfl <| k1
theorem s_Mo_allLetters_4 {G : j_G} {d B S N : Nat} {K : Nat → Option (Nat × Nat)} {M : Nat → Int → Int} {g : Nat → Int → Option Nat} {Q : j_O → j_S → Prop} {a0 y1 n2 : Nat} {x1 x2 x3 : Int} (hk1 : K a0 = some (0, 8)) (hg2 : g a0 1 = some y1) (hk2 : K y1 = some (1, n2)) (r3 : 0 ≤ x1 := by omega) (r3' : x1 < (n2 : Int) := by omega) (r4 : -2147483648 ≤ x3 ∧ x3 ≤ 2147483647 := by omega) (r5 : -2147483648 ≤ (M y1 x1) ∧ (M y1 x1) ≤ 2147483647 := by omega) (k1 : (M y1 x1) ≤ x3 → j_J G jm_Mo_allLetters d B S 47 [jr_ a0, ji_ x1, ji_ x2, ji_ x3] [] (N, K, M, g) Q) (k2 : x3 < (M y1 x1) → j_J G jm_Mo_allLetters d B S 14 [jr_ a0, ji_ x1, ji_ x2, ji_ x3] [] (N, K, M, g) Q) : j_J G jm_Mo_allLetters d B S 4 [jr_ a0, ji_ x1, ji_ x2, ji_ x3] [] (N, K, M, g) Q :=
  j_iload_n d_Mo_allLetters_4 rfl <| j_aload_n d_Mo_allLetters_5 rfl <| j_getR d_Mo_allLetters_6 f_Mo_13 hk1 hg2 <| j_iload_n d_Mo_allLetters_9 rfl <| j_iald d_Mo_allLetters_10 hk2 r3 r3' <| j_icmp_ge d_Mo_allLetters_11 r4 r5 k1 k2
theorem s_Mo_allLetters_14 {G : j_G} {d B S N : Nat} {K : Nat → Option (Nat × Nat)} {M : Nat → Int → Int} {g : Nat → Int → Option Nat} {Q : j_O → j_S → Prop} {a0 : Nat} {x1 x2 x3 : Int} (r1 : -2147483648 ≤ x2 ∧ x2 ≤ 2147483647 := by omega) (k1 : x2 = 0 → j_J G jm_Mo_allLetters d B S 4 [jr_ a0, ji_ x1, ji_ 0, ji_ (x3 + 1)] [] (N, K, M, g) Q) (k2 : x2 ≠ 0 → j_J G jm_Mo_allLetters d B S 18 [jr_ a0, ji_ x1, ji_ x2, ji_ x3] [] (N, K, M, g) Q) : j_J G jm_Mo_allLetters d B S 14 [jr_ a0, ji_ x1, ji_ x2, ji_ x3] [] (N, K, M, g) Q :=
  j_iload_n d_Mo_allLetters_14 rfl <| j_if_eq d_Mo_allLetters_15 r1 (fun h => j_iconst d_Mo_allLetters_39 <| j_istore_n d_Mo_allLetters_40 rfl rfl <| j_iinc d_Mo_allLetters_41 rfl rfl rfl <| j_goto d_Mo_allLetters_44 <| k1 h) k2
theorem s_Mo_allLetters_18 {G : j_G} {d B S N : Nat} {K : Nat → Option (Nat × Nat)} {M : Nat → Int → Int} {g : Nat → Int → Option Nat} {Q : j_O → j_S → Prop} {a0 y1 n2 : Nat} {x1 x2 x3 : Int} {q : Int → (Nat → Int → Int) → Prop} (hk1 : K a0 = some (0, 8)) (hg2 : g a0 0 = some y1) (hk2 : K y1 = some (1, n2)) (r3 : 0 ≤ ((24 * x1) + x3) := by omega) (r3' : ((24 * x1) + x3) < (n2 : Int) := by omega) (hC : j_Ct G jm_Mo_isLetter d 0 0 [ji_ (M y1 ((24 * x1) + x3))] (N, K, M, g) (j_pI N K g q)) (k1 : ∀ z M', q z M' → j_J G jm_Mo_allLetters (d + 1) B S 32 [jr_ a0, ji_ x1, ji_ x2, ji_ x3] [ji_ z] (N, K, M', g) Q) : j_J G jm_Mo_allLetters (d + 1) B S 18 [jr_ a0, ji_ x1, ji_ x2, ji_ x3] [] (N, K, M, g) Q :=
  j_aload_n d_Mo_allLetters_18 rfl <| j_getR d_Mo_allLetters_19 f_Mo_7 hk1 hg2 <| j_bipush d_Mo_allLetters_22 (by decide) <| j_iload_n d_Mo_allLetters_24 rfl <| j_imul d_Mo_allLetters_25 <| j_iload_n d_Mo_allLetters_26 rfl <| j_iadd d_Mo_allLetters_27 <| j_iald d_Mo_allLetters_28 hk2 r3 r3' <| j_aSI (as := [ji_ (M y1 ((24 * x1) + x3))]) (rest := []) d_Mo_allLetters_29 c_Mo_92 rfl (Nat.le_of_ble_eq_true rfl) hC k1
theorem s_Mo_allLetters_32 {G : j_G} {d B S N : Nat} {K : Nat → Option (Nat × Nat)} {M : Nat → Int → Int} {g : Nat → Int → Option Nat} {Q : j_O → j_S → Prop} {a0 : Nat} {x1 x2 x3 t0 : Int} (r1 : -2147483648 ≤ t0 ∧ t0 ≤ 2147483647 := by omega) (k1 : t0 = 0 → j_J G jm_Mo_allLetters d B S 4 [jr_ a0, ji_ x1, ji_ 0, ji_ (x3 + 1)] [] (N, K, M, g) Q) (k2 : t0 ≠ 0 → j_J G jm_Mo_allLetters d B S 4 [jr_ a0, ji_ x1, ji_ 1, ji_ (x3 + 1)] [] (N, K, M, g) Q) : j_J G jm_Mo_allLetters d B S 32 [jr_ a0, ji_ x1, ji_ x2, ji_ x3] [ji_ t0] (N, K, M, g) Q :=
  j_if_eq d_Mo_allLetters_32 r1 (fun h => j_iconst d_Mo_allLetters_39 <| j_istore_n d_Mo_allLetters_40 rfl rfl <| j_iinc d_Mo_allLetters_41 rfl rfl rfl <| j_goto d_Mo_allLetters_44 <| k1 h) (fun h => j_iconst d_Mo_allLetters_35 <| j_goto d_Mo_allLetters_36 <| j_istore_n d_Mo_allLetters_40 rfl rfl <| j_iinc d_Mo_allLetters_41 rfl rfl rfl <| j_goto d_Mo_allLetters_44 <| k2 h)
theorem s_Mo_allLetters_35 {G : j_G} {d B S N : Nat} {K : Nat → Option (Nat × Nat)} {M : Nat → Int → Int} {g : Nat → Int → Option Nat} {Q : j_O → j_S → Prop} {a0 : Nat} {x1 x2 x3 : Int}  (k1 : j_J G jm_Mo_allLetters d B S 4 [jr_ a0, ji_ x1, ji_ 1, ji_ (x3 + 1)] [] (N, K, M, g) Q) : j_J G jm_Mo_allLetters d B S 35 [jr_ a0, ji_ x1, ji_ x2, ji_ x3] [] (N, K, M, g) Q :=
  j_iconst d_Mo_allLetters_35 <| j_goto d_Mo_allLetters_36 (j_istore_n d_Mo_allLetters_40 rfl rfl <| j_iinc d_Mo_allLetters_41 rfl rfl rfl <| j_goto d_Mo_allLetters_44 <| k1)
theorem s_Mo_allLetters_39 {G : j_G} {d B S N : Nat} {K : Nat → Option (Nat × Nat)} {M : Nat → Int → Int} {g : Nat → Int → Option Nat} {Q : j_O → j_S → Prop} {a0 : Nat} {x1 x2 x3 : Int}  (k1 : j_J G jm_Mo_allLetters d B S 4 [jr_ a0, ji_ x1, ji_ 0, ji_ (x3 + 1)] [] (N, K, M, g) Q) : j_J G jm_Mo_allLetters d B S 39 [jr_ a0, ji_ x1, ji_ x2, ji_ x3] [] (N, K, M, g) Q :=
  j_iconst d_Mo_allLetters_39 <| (j_istore_n d_Mo_allLetters_40 rfl rfl <| j_iinc d_Mo_allLetters_41 rfl rfl rfl <| j_goto d_Mo_allLetters_44 <| k1)
theorem s_Mo_allLetters_40 {G : j_G} {d B S N : Nat} {K : Nat → Option (Nat × Nat)} {M : Nat → Int → Int} {g : Nat → Int → Option Nat} {Q : j_O → j_S → Prop} {a0 : Nat} {x1 x2 x3 t0 : Int}  (k1 : j_J G jm_Mo_allLetters d B S 4 [jr_ a0, ji_ x1, ji_ t0, ji_ (x3 + 1)] [] (N, K, M, g) Q) : j_J G jm_Mo_allLetters d B S 40 [jr_ a0, ji_ x1, ji_ x2, ji_ x3] [ji_ t0] (N, K, M, g) Q :=
  j_istore_n d_Mo_allLetters_40 rfl rfl <| j_iinc d_Mo_allLetters_41 rfl rfl rfl <| j_goto d_Mo_allLetters_44 k1
theorem s_Mo_allLetters_47 {G : j_G} {d B S N : Nat} {K : Nat → Option (Nat × Nat)} {M : Nat → Int → Int} {g : Nat → Int → Option Nat} {Q : j_O → j_S → Prop} {a0 : Nat} {x1 x2 x3 : Int} (hz1 : x2 = 0 ∨ x2 = 1) (k1 : Q (.inl (some (ji_ x2))) (N, K, M, g)) : j_J G jm_Mo_allLetters d B S 47 [jr_ a0, ji_ x1, ji_ x2, ji_ x3] [] (N, K, M, g) Q :=
  j_iload_n d_Mo_allLetters_47 rfl <| j_zreturn' d_Mo_allLetters_48 rfl hz1 k1
theorem s_Mo_take_0 {G : j_G} {d B S N : Nat} {K : Nat → Option (Nat × Nat)} {M : Nat → Int → Int} {g : Nat → Int → Option Nat} {Q : j_O → j_S → Prop} {a0 y1 n2 : Nat} {x1 x2 : Int} {u3 : j_V} (hk1 : K a0 = some (0, 8)) (hg2 : g a0 1 = some y1) (hk2 : K y1 = some (1, n2)) (r3 : 0 ≤ x1 := by omega) (r3' : x1 < (n2 : Int) := by omega) (r4 : 0 ≤ x2 := by omega) (r4' : x2 < (n2 : Int) := by omega) (k1 : j_J G jm_Mo_take d B S 22 [jr_ a0, ji_ x1, ji_ x2, ji_ 0] [] (N, K, (j_up (j_up M a0 2 (M y1 x1)) a0 3 ((j_up M a0 2 (M y1 x1)) y1 x2)), g) Q) : j_J G jm_Mo_take d B S 0 [jr_ a0, ji_ x1, ji_ x2, u3] [] (N, K, M, g) Q :=
  j_aload_n d_Mo_take_0 rfl <| j_aload_n d_Mo_take_1 rfl <| j_getR d_Mo_take_2 f_Mo_13 hk1 hg2 <| j_iload_n d_Mo_take_5 rfl <| j_iald d_Mo_take_6 hk2 r3 r3' <| j_putI d_Mo_take_7 f_Mo_96 (⟨_, rfl, Or.inl rfl⟩) rfl hk1 <| j_aload_n d_Mo_take_10 rfl <| j_aload_n d_Mo_take_11 rfl <| j_getR d_Mo_take_12 f_Mo_13 hk1 hg2 <| j_iload_n d_Mo_take_15 rfl <| j_iald d_Mo_take_16 hk2 r4 r4' <| j_putI d_Mo_take_17 f_Mo_100 (⟨_, rfl, Or.inl rfl⟩) rfl hk1 <| j_iconst d_Mo_take_20 <| j_istore_n d_Mo_take_21 rfl rfl <| k1
theorem s_Mo_take_22 {G : j_G} {d B S N : Nat} {K : Nat → Option (Nat × Nat)} {M : Nat → Int → Int} {g : Nat → Int → Option Nat} {Q : j_O → j_S → Prop} {a0 : Nat} {x1 x2 x3 : Int} (hk1 : K a0 = some (0, 8)) (r1 : -2147483648 ≤ x3 ∧ x3 ≤ 2147483647 := by omega) (r2 : -2147483648 ≤ (M a0 2) ∧ (M a0 2) ≤ 2147483647 := by omega) (k1 : (M a0 2) ≤ x3 → j_J G jm_Mo_take d B S 62 [jr_ a0, ji_ x1, ji_ x2, ji_ 0] [] (N, K, M, g) Q) (k2 : x3 < (M a0 2) → j_J G jm_Mo_take d B S 30 [jr_ a0, ji_ x1, ji_ x2, ji_ x3] [] (N, K, M, g) Q) : j_J G jm_Mo_take d B S 22 [jr_ a0, ji_ x1, ji_ x2, ji_ x3] [] (N, K, M, g) Q :=
  j_iload_n d_Mo_take_22 rfl <| j_aload_n d_Mo_take_23 rfl <| j_getI d_Mo_take_24 f_Mo_96 hk1 <| j_icmp_ge d_Mo_take_27 r1 r2 (fun h => j_iconst d_Mo_take_60 <| j_istore_n d_Mo_take_61 rfl rfl <| k1 h) k2
theorem s_Mo_take_30 {G : j_G} {d B S N : Nat} {K : Nat → Option (Nat × Nat)} {M : Nat → Int → Int} {g : Nat → Int → Option Nat} {Q : j_O → j_S → Prop} {a0 y1 y3 n2 n3 y7 n4 : Nat} {x1 x2 x3 : Int} (hk1 : K a0 = some (0, 8)) (hg2 : g a0 4 = some y1) (hg4 : g a0 0 = some y3) (hk2 : K y3 = some (1, n2)) (r5 : 0 ≤ ((24 * x1) + x3) := by omega) (r5' : ((24 * x1) + x3) < (n2 : Int) := by omega) (hk3 : K y1 = some (1, n3)) (r6 : 0 ≤ x3 := by omega) (r6' : x3 < (n3 : Int) := by omega) (hg8 : g a0 6 = some y7) (hk4 : K y7 = some (1, n4)) (r9 : 0 ≤ x3 := by omega) (r9' : x3 < (n4 : Int) := by omega) (k1 : j_J G jm_Mo_take d B S 22 [jr_ a0, ji_ x1, ji_ x2, ji_ (x3 + 1)] [] (N, K, (j_up (j_up M y1 x3 (M y3 ((24 * x1) + x3))) y7 x3 (-1)), g) Q) : j_J G jm_Mo_take d B S 30 [jr_ a0, ji_ x1, ji_ x2, ji_ x3] [] (N, K, M, g) Q :=
  j_aload_n d_Mo_take_30 rfl <| j_getR d_Mo_take_31 f_Mo_16 hk1 hg2 <| j_iload_n d_Mo_take_34 rfl <| j_aload_n d_Mo_take_35 rfl <| j_getR d_Mo_take_36 f_Mo_7 hk1 hg4 <| j_bipush d_Mo_take_39 (by decide) <| j_iload_n d_Mo_take_41 rfl <| j_imul d_Mo_take_42 <| j_iload_n d_Mo_take_43 rfl <| j_iadd d_Mo_take_44 <| j_iald d_Mo_take_45 hk2 r5 r5' <| j_iast d_Mo_take_46 hk3 r6 r6' <| j_aload_n d_Mo_take_47 rfl <| j_getR d_Mo_take_48 f_Mo_22 hk1 hg8 <| j_iload_n d_Mo_take_51 rfl <| j_iconst d_Mo_take_52 <| j_iast d_Mo_take_53 hk4 r9 r9' <| j_iinc d_Mo_take_54 rfl rfl rfl <| j_goto d_Mo_take_57 k1
theorem s_Mo_take_60 {G : j_G} {d B S N : Nat} {K : Nat → Option (Nat × Nat)} {M : Nat → Int → Int} {g : Nat → Int → Option Nat} {Q : j_O → j_S → Prop} {a0 : Nat} {x1 x2 x3 : Int}  (k1 : j_J G jm_Mo_take d B S 62 [jr_ a0, ji_ x1, ji_ x2, ji_ 0] [] (N, K, M, g) Q) : j_J G jm_Mo_take d B S 60 [jr_ a0, ji_ x1, ji_ x2, ji_ x3] [] (N, K, M, g) Q :=
  j_iconst d_Mo_take_60 <| j_istore_n d_Mo_take_61 rfl rfl <| k1
theorem s_Mo_take_62 {G : j_G} {d B S N : Nat} {K : Nat → Option (Nat × Nat)} {M : Nat → Int → Int} {g : Nat → Int → Option Nat} {Q : j_O → j_S → Prop} {a0 : Nat} {x1 x2 x3 : Int} (hk1 : K a0 = some (0, 8)) (r1 : -2147483648 ≤ x3 ∧ x3 ≤ 2147483647 := by omega) (r2 : -2147483648 ≤ (M a0 3) ∧ (M a0 3) ≤ 2147483647 := by omega) (k1 : (M a0 3) ≤ x3 → Q (.inl none) (N, K, M, g)) (k2 : x3 < (M a0 3) → j_J G jm_Mo_take d B S 70 [jr_ a0, ji_ x1, ji_ x2, ji_ x3] [] (N, K, M, g) Q) : j_J G jm_Mo_take d B S 62 [jr_ a0, ji_ x1, ji_ x2, ji_ x3] [] (N, K, M, g) Q :=
  j_iload_n d_Mo_take_62 rfl <| j_aload_n d_Mo_take_63 rfl <| j_getI d_Mo_take_64 f_Mo_100 hk1 <| j_icmp_ge d_Mo_take_67 r1 r2 (fun h => j_vreturn d_Mo_take_93 rfl <| k1 h) k2
theorem s_Mo_take_70 {G : j_G} {d B S N : Nat} {K : Nat → Option (Nat × Nat)} {M : Nat → Int → Int} {g : Nat → Int → Option Nat} {Q : j_O → j_S → Prop} {a0 y1 y3 n2 n3 : Nat} {x1 x2 x3 : Int} (hk1 : K a0 = some (0, 8)) (hg2 : g a0 5 = some y1) (hg4 : g a0 0 = some y3) (hk2 : K y3 = some (1, n2)) (r5 : 0 ≤ ((24 * x2) + x3) := by omega) (r5' : ((24 * x2) + x3) < (n2 : Int) := by omega) (hk3 : K y1 = some (1, n3)) (r6 : 0 ≤ x3 := by omega) (r6' : x3 < (n3 : Int) := by omega) (k1 : j_J G jm_Mo_take d B S 62 [jr_ a0, ji_ x1, ji_ x2, ji_ (x3 + 1)] [] (N, K, (j_up M y1 x3 (M y3 ((24 * x2) + x3))), g) Q) : j_J G jm_Mo_take d B S 70 [jr_ a0, ji_ x1, ji_ x2, ji_ x3] [] (N, K, M, g) Q :=
  j_aload_n d_Mo_take_70 rfl <| j_getR d_Mo_take_71 f_Mo_19 hk1 hg2 <| j_iload_n d_Mo_take_74 rfl <| j_aload_n d_Mo_take_75 rfl <| j_getR d_Mo_take_76 f_Mo_7 hk1 hg4 <| j_bipush d_Mo_take_79 (by decide) <| j_iload_n d_Mo_take_81 rfl <| j_imul d_Mo_take_82 <| j_iload_n d_Mo_take_83 rfl <| j_iadd d_Mo_take_84 <| j_iald d_Mo_take_85 hk2 r5 r5' <| j_iast d_Mo_take_86 hk3 r6 r6' <| j_iinc d_Mo_take_87 rfl rfl rfl <| j_goto d_Mo_take_90 k1
theorem s_Mo_take_93 {G : j_G} {d B S N : Nat} {K : Nat → Option (Nat × Nat)} {M : Nat → Int → Int} {g : Nat → Int → Option Nat} {Q : j_O → j_S → Prop} {a0 : Nat} {x1 x2 x3 : Int}  (k1 : Q (.inl none) (N, K, M, g)) : j_J G jm_Mo_take d B S 93 [jr_ a0, ji_ x1, ji_ x2, ji_ x3] [] (N, K, M, g) Q :=
  j_vreturn d_Mo_take_93 rfl k1
theorem s_Mo_compareShort_0 {G : j_G} {d B S N : Nat} {K : Nat → Option (Nat × Nat)} {M : Nat → Int → Int} {g : Nat → Int → Option Nat} {Q : j_O → j_S → Prop} {a0 : Nat} {x1 x2 x3 x4 : Int} {u5 u6 u7 u8 u9 u10 : j_V}  (k1 : j_J G jm_Mo_compareShort d B S 3 [jr_ a0, ji_ x1, ji_ x2, ji_ x3, ji_ x4, ji_ x2, u6, u7, u8, u9, u10] [] (N, K, M, g) Q) : j_J G jm_Mo_compareShort d B S 0 [jr_ a0, ji_ x1, ji_ x2, ji_ x3, ji_ x4, u5, u6, u7, u8, u9, u10] [] (N, K, M, g) Q :=
  j_iload_n d_Mo_compareShort_0 rfl <| j_istore d_Mo_compareShort_1 rfl rfl <| k1
theorem s_Mo_compareShort_3 {G : j_G} {d B S N : Nat} {K : Nat → Option (Nat × Nat)} {M : Nat → Int → Int} {g : Nat → Int → Option Nat} {Q : j_O → j_S → Prop} {a0 : Nat} {x1 x2 x3 x4 x5 : Int} {u6 u7 u8 u9 u10 : j_V} (r1 : -2147483648 ≤ x5 ∧ x5 ≤ 2147483647 := by omega) (r2 : -2147483648 ≤ x1 ∧ x1 ≤ 2147483647 := by omega) (k1 : x5 < x1 → j_J G jm_Mo_compareShort d B S 176 [jr_ a0, ji_ x1, ji_ x2, ji_ x3, ji_ x4, ji_ x1, ji_ x3, u7, u8, u9, u10] [] (N, K, M, g) Q) (k2 : x1 ≤ x5 → j_J G jm_Mo_compareShort d B S 13 [jr_ a0, ji_ x1, ji_ x2, ji_ x3, ji_ x4, ji_ x5, ji_ x4, u7, u8, u9, u10] [] (N, K, M, g) Q) : j_J G jm_Mo_compareShort d B S 3 [jr_ a0, ji_ x1, ji_ x2, ji_ x3, ji_ x4, ji_ x5, u6, u7, u8, u9, u10] [] (N, K, M, g) Q :=
  j_iload d_Mo_compareShort_3 rfl <| j_iload_n d_Mo_compareShort_5 rfl <| j_icmp_lt d_Mo_compareShort_6 r1 r2 (fun h => j_iload_n d_Mo_compareShort_170 rfl <| j_istore d_Mo_compareShort_171 rfl rfl <| j_iload_n d_Mo_compareShort_173 rfl <| j_istore d_Mo_compareShort_174 rfl rfl <| k1 h) (fun h => j_iload d_Mo_compareShort_9 rfl <| j_istore d_Mo_compareShort_11 rfl rfl <| k2 h)
theorem s_Mo_compareShort_9 {G : j_G} {d B S N : Nat} {K : Nat → Option (Nat × Nat)} {M : Nat → Int → Int} {g : Nat → Int → Option Nat} {Q : j_O → j_S → Prop} {a0 : Nat} {x1 x2 x3 x4 x5 : Int} {u6 u7 u8 u9 u10 : j_V}  (k1 : j_J G jm_Mo_compareShort d B S 13 [jr_ a0, ji_ x1, ji_ x2, ji_ x3, ji_ x4, ji_ x5, ji_ x4, u7, u8, u9, u10] [] (N, K, M, g) Q) : j_J G jm_Mo_compareShort d B S 9 [jr_ a0, ji_ x1, ji_ x2, ji_ x3, ji_ x4, ji_ x5, u6, u7, u8, u9, u10] [] (N, K, M, g) Q :=
  j_iload d_Mo_compareShort_9 rfl <| j_istore d_Mo_compareShort_11 rfl rfl <| k1
theorem s_Mo_compareShort_13 {G : j_G} {d B S N : Nat} {K : Nat → Option (Nat × Nat)} {M : Nat → Int → Int} {g : Nat → Int → Option Nat} {Q : j_O → j_S → Prop} {a0 : Nat} {x1 x2 x3 x4 x5 x6 : Int} {u7 u8 u9 u10 : j_V} (r1 : -2147483648 ≤ x6 ∧ x6 ≤ 2147483647 := by omega) (r2 : -2147483648 ≤ x3 ∧ x3 ≤ 2147483647 := by omega) (k1 : x6 < x3 → j_J G jm_Mo_compareShort d B S 3 [jr_ a0, ji_ x1, ji_ x2, ji_ x3, ji_ x4, ji_ (x5 + (-1)), ji_ x6, u7, u8, u9, u10] [] (N, K, M, g) Q) (k2 : x3 ≤ x6 → j_J G jm_Mo_compareShort d B S 19 [jr_ a0, ji_ x1, ji_ x2, ji_ x3, ji_ x4, ji_ x5, ji_ x6, u7, u8, u9, u10] [] (N, K, M, g) Q) : j_J G jm_Mo_compareShort d B S 13 [jr_ a0, ji_ x1, ji_ x2, ji_ x3, ji_ x4, ji_ x5, ji_ x6, u7, u8, u9, u10] [] (N, K, M, g) Q :=
  j_iload d_Mo_compareShort_13 rfl <| j_iload_n d_Mo_compareShort_15 rfl <| j_icmp_lt d_Mo_compareShort_16 r1 r2 (fun h => j_iinc d_Mo_compareShort_164 rfl rfl rfl <| j_goto d_Mo_compareShort_167 <| k1 h) k2
theorem s_Mo_compareShort_19 {G : j_G} {d B S N : Nat} {K : Nat → Option (Nat × Nat)} {M : Nat → Int → Int} {g : Nat → Int → Option Nat} {Q : j_O → j_S → Prop} {a0 : Nat} {x1 x2 x3 x4 x5 x6 : Int} {u7 u8 u9 u10 : j_V} (r1 : -2147483648 ≤ x5 ∧ x5 ≤ 2147483647 := by omega) (r2 : -2147483648 ≤ x2 ∧ x2 ≤ 2147483647 := by omega) (k1 : x2 ≤ x5 → j_J G jm_Mo_compareShort d B S 143 [jr_ a0, ji_ x1, ji_ x2, ji_ x3, ji_ x4, ji_ x5, ji_ x6, ji_ 0, u8, u9, u10] [] (N, K, M, g) Q) (k2 : x5 < x2 → j_J G jm_Mo_compareShort d B S 28 [jr_ a0, ji_ x1, ji_ x2, ji_ x3, ji_ x4, ji_ x5, ji_ x6, ji_ 0, u8, u9, u10] [] (N, K, M, g) Q) : j_J G jm_Mo_compareShort d B S 19 [jr_ a0, ji_ x1, ji_ x2, ji_ x3, ji_ x4, ji_ x5, ji_ x6, u7, u8, u9, u10] [] (N, K, M, g) Q :=
  j_iconst d_Mo_compareShort_19 <| j_istore d_Mo_compareShort_20 rfl rfl <| j_iload d_Mo_compareShort_22 rfl <| j_iload_n d_Mo_compareShort_24 rfl <| j_icmp_ge d_Mo_compareShort_25 r1 r2 k1 k2
theorem s_Mo_compareShort_28 {G : j_G} {d B S N : Nat} {K : Nat → Option (Nat × Nat)} {M : Nat → Int → Int} {g : Nat → Int → Option Nat} {Q : j_O → j_S → Prop} {a0 : Nat} {x1 x2 x3 x4 x5 x6 x7 : Int} {u8 u9 u10 : j_V} (r1 : -2147483648 ≤ x6 ∧ x6 ≤ 2147483647 := by omega) (r2 : -2147483648 ≤ x4 ∧ x4 ≤ 2147483647 := by omega) (k1 : x4 ≤ x6 → j_J G jm_Mo_compareShort d B S 143 [jr_ a0, ji_ x1, ji_ x2, ji_ x3, ji_ x4, ji_ x5, ji_ x6, ji_ x7, u8, u9, u10] [] (N, K, M, g) Q) (k2 : x6 < x4 → j_J G jm_Mo_compareShort d B S 35 [jr_ a0, ji_ x1, ji_ x2, ji_ x3, ji_ x4, ji_ x5, ji_ x6, ji_ x7, u8, u9, u10] [] (N, K, M, g) Q) : j_J G jm_Mo_compareShort d B S 28 [jr_ a0, ji_ x1, ji_ x2, ji_ x3, ji_ x4, ji_ x5, ji_ x6, ji_ x7, u8, u9, u10] [] (N, K, M, g) Q :=
  j_iload d_Mo_compareShort_28 rfl <| j_iload d_Mo_compareShort_30 rfl <| j_icmp_ge d_Mo_compareShort_32 r1 r2 k1 k2
theorem s_Mo_compareShort_35 {G : j_G} {d B S N : Nat} {K : Nat → Option (Nat × Nat)} {M : Nat → Int → Int} {g : Nat → Int → Option Nat} {Q : j_O → j_S → Prop} {a0 y1 n2 y5 n3 y8 n4 : Nat} {x1 x2 x3 x4 x5 x6 x7 : Int} {u8 u9 u10 : j_V} (hk1 : K a0 = some (0, 8)) (hg2 : g a0 7 = some y1) (hk2 : K y1 = some (1, n2)) (r3 : 0 ≤ (((25 * x5) + 25) + x6) := by omega) (r3' : (((25 * x5) + 25) + x6) < (n2 : Int) := by omega) (r4 : 0 ≤ (((25 * x5) + x6) + 1) := by omega) (r4' : (((25 * x5) + x6) + 1) < (n2 : Int) := by omega) (hg6 : g a0 4 = some y5) (hk3 : K y5 = some (1, n3)) (r7 : 0 ≤ x5 := by omega) (r7' : x5 < (n3 : Int) := by omega) (hg9 : g a0 5 = some y8) (hk4 : K y8 = some (1, n4)) (r10 : 0 ≤ x6 := by omega) (r10' : x6 < (n4 : Int) := by omega) (r11 : -2147483648 ≤ (M y5 x5) ∧ (M y5 x5) ≤ 2147483647 := by omega) (r12 : -2147483648 ≤ (M y8 x6) ∧ (M y8 x6) ≤ 2147483647 := by omega) (k1 : (M y5 x5) ≠ (M y8 x6) → j_J G jm_Mo_compareShort d B S 109 [jr_ a0, ji_ x1, ji_ x2, ji_ x3, ji_ x4, ji_ x5, ji_ x6, ji_ x7, ji_ (M y1 (((25 * x5) + 25) + x6)), ji_ (M y1 (((25 * x5) + x6) + 1)), u10] [ji_ 0] (N, K, M, g) Q) (k2 : (M y5 x5) = (M y8 x6) → j_J G jm_Mo_compareShort d B S 87 [jr_ a0, ji_ x1, ji_ x2, ji_ x3, ji_ x4, ji_ x5, ji_ x6, ji_ x7, ji_ (M y1 (((25 * x5) + 25) + x6)), ji_ (M y1 (((25 * x5) + x6) + 1)), u10] [] (N, K, M, g) Q) : j_J G jm_Mo_compareShort d B S 35 [jr_ a0, ji_ x1, ji_ x2, ji_ x3, ji_ x4, ji_ x5, ji_ x6, ji_ x7, u8, u9, u10] [] (N, K, M, g) Q :=
  j_aload_n d_Mo_compareShort_35 rfl <| j_getR d_Mo_compareShort_36 f_Mo_25 hk1 hg2 <| j_bipush d_Mo_compareShort_39 (by decide) <| j_iload d_Mo_compareShort_41 rfl <| j_imul d_Mo_compareShort_43 <| j_bipush d_Mo_compareShort_44 (by decide) <| j_iadd d_Mo_compareShort_46 <| j_iload d_Mo_compareShort_47 rfl <| j_iadd d_Mo_compareShort_49 <| j_iald d_Mo_compareShort_50 hk2 r3 r3' <| j_istore d_Mo_compareShort_51 rfl rfl <| j_aload_n d_Mo_compareShort_53 rfl <| j_getR d_Mo_compareShort_54 f_Mo_25 hk1 hg2 <| j_bipush d_Mo_compareShort_57 (by decide) <| j_iload d_Mo_compareShort_59 rfl <| j_imul d_Mo_compareShort_61 <| j_iload d_Mo_compareShort_62 rfl <| j_iadd d_Mo_compareShort_64 <| j_iconst d_Mo_compareShort_65 <| j_iadd d_Mo_compareShort_66 <| j_iald d_Mo_compareShort_67 hk2 r4 r4' <| j_istore d_Mo_compareShort_68 rfl rfl <| j_aload_n d_Mo_compareShort_70 rfl <| j_getR d_Mo_compareShort_71 f_Mo_16 hk1 hg6 <| j_iload d_Mo_compareShort_74 rfl <| j_iald d_Mo_compareShort_76 hk3 r7 r7' <| j_aload_n d_Mo_compareShort_77 rfl <| j_getR d_Mo_compareShort_78 f_Mo_19 hk1 hg9 <| j_iload d_Mo_compareShort_81 rfl <| j_iald d_Mo_compareShort_83 hk4 r10 r10' <| j_icmp_ne d_Mo_compareShort_84 r11 r12 (fun h => j_iconst d_Mo_compareShort_108 <| k1 h) k2
theorem s_Mo_compareShort_87 {G : j_G} {d B S N : Nat} {K : Nat → Option (Nat × Nat)} {M : Nat → Int → Int} {g : Nat → Int → Option Nat} {Q : j_O → j_S → Prop} {a0 y1 n2 : Nat} {x1 x2 x3 x4 x5 x6 x7 x8 x9 : Int} {u10 : j_V} (hk1 : K a0 = some (0, 8)) (hg2 : g a0 7 = some y1) (hk2 : K y1 = some (1, n2)) (r3 : 0 ≤ (((25 * x5) + 26) + x6) := by omega) (r3' : (((25 * x5) + 26) + x6) < (n2 : Int) := by omega) (k1 : j_J G jm_Mo_compareShort d B S 109 [jr_ a0, ji_ x1, ji_ x2, ji_ x3, ji_ x4, ji_ x5, ji_ x6, ji_ x7, ji_ x8, ji_ x9, u10] [ji_ ((M y1 (((25 * x5) + 26) + x6)) + 1)] (N, K, M, g) Q) : j_J G jm_Mo_compareShort d B S 87 [jr_ a0, ji_ x1, ji_ x2, ji_ x3, ji_ x4, ji_ x5, ji_ x6, ji_ x7, ji_ x8, ji_ x9, u10] [] (N, K, M, g) Q :=
  j_aload_n d_Mo_compareShort_87 rfl <| j_getR d_Mo_compareShort_88 f_Mo_25 hk1 hg2 <| j_bipush d_Mo_compareShort_91 (by decide) <| j_iload d_Mo_compareShort_93 rfl <| j_imul d_Mo_compareShort_95 <| j_bipush d_Mo_compareShort_96 (by decide) <| j_iadd d_Mo_compareShort_98 <| j_iload d_Mo_compareShort_99 rfl <| j_iadd d_Mo_compareShort_101 <| j_iald d_Mo_compareShort_102 hk2 r3 r3' <| j_iconst d_Mo_compareShort_103 <| j_iadd d_Mo_compareShort_104 <| j_goto d_Mo_compareShort_105 k1
theorem s_Mo_compareShort_108 {G : j_G} {d B S N : Nat} {K : Nat → Option (Nat × Nat)} {M : Nat → Int → Int} {g : Nat → Int → Option Nat} {Q : j_O → j_S → Prop} {a0 : Nat} {x1 x2 x3 x4 x5 x6 x7 x8 x9 : Int} {u10 : j_V}  (k1 : j_J G jm_Mo_compareShort d B S 109 [jr_ a0, ji_ x1, ji_ x2, ji_ x3, ji_ x4, ji_ x5, ji_ x6, ji_ x7, ji_ x8, ji_ x9, u10] [ji_ 0] (N, K, M, g) Q) : j_J G jm_Mo_compareShort d B S 108 [jr_ a0, ji_ x1, ji_ x2, ji_ x3, ji_ x4, ji_ x5, ji_ x6, ji_ x7, ji_ x8, ji_ x9, u10] [] (N, K, M, g) Q :=
  j_iconst d_Mo_compareShort_108 <| k1
theorem s_Mo_compareShort_109 {G : j_G} {d B S N : Nat} {K : Nat → Option (Nat × Nat)} {M : Nat → Int → Int} {g : Nat → Int → Option Nat} {Q : j_O → j_S → Prop} {a0 : Nat} {x1 x2 x3 x4 x5 x6 x7 x8 x9 t0 : Int} {u10 : j_V} (r1 : -2147483648 ≤ x8 ∧ x8 ≤ 2147483647 := by omega) (r2 : -2147483648 ≤ x9 ∧ x9 ≤ 2147483647 := by omega) (k1 : x8 ≤ x9 → j_J G jm_Mo_compareShort d B S 125 [jr_ a0, ji_ x1, ji_ x2, ji_ x3, ji_ x4, ji_ x5, ji_ x6, ji_ x7, ji_ x8, ji_ x9, ji_ t0] [ji_ x9] (N, K, M, g) Q) (k2 : x9 < x8 → j_J G jm_Mo_compareShort d B S 125 [jr_ a0, ji_ x1, ji_ x2, ji_ x3, ji_ x4, ji_ x5, ji_ x6, ji_ x7, ji_ x8, ji_ x9, ji_ t0] [ji_ x8] (N, K, M, g) Q) : j_J G jm_Mo_compareShort d B S 109 [jr_ a0, ji_ x1, ji_ x2, ji_ x3, ji_ x4, ji_ x5, ji_ x6, ji_ x7, ji_ x8, ji_ x9, u10] [ji_ t0] (N, K, M, g) Q :=
  j_istore d_Mo_compareShort_109 rfl rfl <| j_iload d_Mo_compareShort_111 rfl <| j_iload d_Mo_compareShort_113 rfl <| j_icmp_le d_Mo_compareShort_115 r1 r2 (fun h => j_iload d_Mo_compareShort_123 rfl <| k1 h) (fun h => j_iload d_Mo_compareShort_118 rfl <| j_goto d_Mo_compareShort_120 <| k2 h)
theorem s_Mo_compareShort_118 {G : j_G} {d B S N : Nat} {K : Nat → Option (Nat × Nat)} {M : Nat → Int → Int} {g : Nat → Int → Option Nat} {Q : j_O → j_S → Prop} {a0 : Nat} {x1 x2 x3 x4 x5 x6 x7 x8 x9 x10 : Int}  (k1 : j_J G jm_Mo_compareShort d B S 125 [jr_ a0, ji_ x1, ji_ x2, ji_ x3, ji_ x4, ji_ x5, ji_ x6, ji_ x7, ji_ x8, ji_ x9, ji_ x10] [ji_ x8] (N, K, M, g) Q) : j_J G jm_Mo_compareShort d B S 118 [jr_ a0, ji_ x1, ji_ x2, ji_ x3, ji_ x4, ji_ x5, ji_ x6, ji_ x7, ji_ x8, ji_ x9, ji_ x10] [] (N, K, M, g) Q :=
  j_iload d_Mo_compareShort_118 rfl <| j_goto d_Mo_compareShort_120 k1
theorem s_Mo_compareShort_123 {G : j_G} {d B S N : Nat} {K : Nat → Option (Nat × Nat)} {M : Nat → Int → Int} {g : Nat → Int → Option Nat} {Q : j_O → j_S → Prop} {a0 : Nat} {x1 x2 x3 x4 x5 x6 x7 x8 x9 x10 : Int}  (k1 : j_J G jm_Mo_compareShort d B S 125 [jr_ a0, ji_ x1, ji_ x2, ji_ x3, ji_ x4, ji_ x5, ji_ x6, ji_ x7, ji_ x8, ji_ x9, ji_ x10] [ji_ x9] (N, K, M, g) Q) : j_J G jm_Mo_compareShort d B S 123 [jr_ a0, ji_ x1, ji_ x2, ji_ x3, ji_ x4, ji_ x5, ji_ x6, ji_ x7, ji_ x8, ji_ x9, ji_ x10] [] (N, K, M, g) Q :=
  j_iload d_Mo_compareShort_123 rfl <| k1
theorem s_Mo_compareShort_125 {G : j_G} {d B S N : Nat} {K : Nat → Option (Nat × Nat)} {M : Nat → Int → Int} {g : Nat → Int → Option Nat} {Q : j_O → j_S → Prop} {a0 : Nat} {x1 x2 x3 x4 x5 x6 x7 x8 x9 x10 t0 : Int} (r1 : -2147483648 ≤ x10 ∧ x10 ≤ 2147483647 := by omega) (r2 : -2147483648 ≤ t0 ∧ t0 ≤ 2147483647 := by omega) (k1 : x10 ≤ t0 → j_J G jm_Mo_compareShort d B S 143 [jr_ a0, ji_ x1, ji_ x2, ji_ x3, ji_ x4, ji_ x5, ji_ x6, ji_ t0, ji_ x8, ji_ x9, ji_ x10] [] (N, K, M, g) Q) (k2 : t0 < x10 → j_J G jm_Mo_compareShort d B S 143 [jr_ a0, ji_ x1, ji_ x2, ji_ x3, ji_ x4, ji_ x5, ji_ x6, ji_ x10, ji_ x8, ji_ x9, ji_ x10] [] (N, K, M, g) Q) : j_J G jm_Mo_compareShort d B S 125 [jr_ a0, ji_ x1, ji_ x2, ji_ x3, ji_ x4, ji_ x5, ji_ x6, ji_ x7, ji_ x8, ji_ x9, ji_ x10] [ji_ t0] (N, K, M, g) Q :=
  j_istore d_Mo_compareShort_125 rfl rfl <| j_iload d_Mo_compareShort_127 rfl <| j_iload d_Mo_compareShort_129 rfl <| j_icmp_le d_Mo_compareShort_131 r1 r2 (fun h => j_iload d_Mo_compareShort_139 rfl <| j_istore d_Mo_compareShort_141 rfl rfl <| k1 h) (fun h => j_iload d_Mo_compareShort_134 rfl <| j_goto d_Mo_compareShort_136 <| j_istore d_Mo_compareShort_141 rfl rfl <| k2 h)
theorem s_Mo_compareShort_134 {G : j_G} {d B S N : Nat} {K : Nat → Option (Nat × Nat)} {M : Nat → Int → Int} {g : Nat → Int → Option Nat} {Q : j_O → j_S → Prop} {a0 : Nat} {x1 x2 x3 x4 x5 x6 x7 x8 x9 x10 : Int}  (k1 : j_J G jm_Mo_compareShort d B S 143 [jr_ a0, ji_ x1, ji_ x2, ji_ x3, ji_ x4, ji_ x5, ji_ x6, ji_ x10, ji_ x8, ji_ x9, ji_ x10] [] (N, K, M, g) Q) : j_J G jm_Mo_compareShort d B S 134 [jr_ a0, ji_ x1, ji_ x2, ji_ x3, ji_ x4, ji_ x5, ji_ x6, ji_ x7, ji_ x8, ji_ x9, ji_ x10] [] (N, K, M, g) Q :=
  j_iload d_Mo_compareShort_134 rfl <| j_goto d_Mo_compareShort_136 (j_istore d_Mo_compareShort_141 rfl rfl <| k1)
theorem s_Mo_compareShort_139 {G : j_G} {d B S N : Nat} {K : Nat → Option (Nat × Nat)} {M : Nat → Int → Int} {g : Nat → Int → Option Nat} {Q : j_O → j_S → Prop} {a0 : Nat} {x1 x2 x3 x4 x5 x6 x7 x8 x9 x10 : Int}  (k1 : j_J G jm_Mo_compareShort d B S 143 [jr_ a0, ji_ x1, ji_ x2, ji_ x3, ji_ x4, ji_ x5, ji_ x6, ji_ x7, ji_ x8, ji_ x9, ji_ x10] [] (N, K, M, g) Q) : j_J G jm_Mo_compareShort d B S 139 [jr_ a0, ji_ x1, ji_ x2, ji_ x3, ji_ x4, ji_ x5, ji_ x6, ji_ x7, ji_ x8, ji_ x9, ji_ x10] [] (N, K, M, g) Q :=
  j_iload d_Mo_compareShort_139 rfl <| (j_istore d_Mo_compareShort_141 rfl rfl <| k1)
theorem s_Mo_compareShort_141 {G : j_G} {d B S N : Nat} {K : Nat → Option (Nat × Nat)} {M : Nat → Int → Int} {g : Nat → Int → Option Nat} {Q : j_O → j_S → Prop} {a0 : Nat} {x1 x2 x3 x4 x5 x6 x7 x8 x9 x10 t0 : Int}  (k1 : j_J G jm_Mo_compareShort d B S 143 [jr_ a0, ji_ x1, ji_ x2, ji_ x3, ji_ x4, ji_ x5, ji_ x6, ji_ t0, ji_ x8, ji_ x9, ji_ x10] [] (N, K, M, g) Q) : j_J G jm_Mo_compareShort d B S 141 [jr_ a0, ji_ x1, ji_ x2, ji_ x3, ji_ x4, ji_ x5, ji_ x6, ji_ x7, ji_ x8, ji_ x9, ji_ x10] [ji_ t0] (N, K, M, g) Q :=
  j_istore d_Mo_compareShort_141 rfl rfl <| k1
theorem s_Mo_compareShort_143 {G : j_G} {d B S N : Nat} {K : Nat → Option (Nat × Nat)} {M : Nat → Int → Int} {g : Nat → Int → Option Nat} {Q : j_O → j_S → Prop} {a0 y1 n2 : Nat} {x1 x2 x3 x4 x5 x6 x7 : Int} {u8 u9 u10 : j_V} (hk1 : K a0 = some (0, 8)) (hg2 : g a0 7 = some y1) (hk2 : K y1 = some (1, n2)) (r3 : 0 ≤ ((25 * x5) + x6) := by omega) (r3' : ((25 * x5) + x6) < (n2 : Int) := by omega) (k1 : j_J G jm_Mo_compareShort d B S 13 [jr_ a0, ji_ x1, ji_ x2, ji_ x3, ji_ x4, ji_ x5, ji_ (x6 + (-1)), ji_ x7, u8, u9, u10] [] (N, K, (j_up M y1 ((25 * x5) + x6) x7), g) Q) : j_J G jm_Mo_compareShort d B S 143 [jr_ a0, ji_ x1, ji_ x2, ji_ x3, ji_ x4, ji_ x5, ji_ x6, ji_ x7, u8, u9, u10] [] (N, K, M, g) Q :=
  j_aload_n d_Mo_compareShort_143 rfl <| j_getR d_Mo_compareShort_144 f_Mo_25 hk1 hg2 <| j_bipush d_Mo_compareShort_147 (by decide) <| j_iload d_Mo_compareShort_149 rfl <| j_imul d_Mo_compareShort_151 <| j_iload d_Mo_compareShort_152 rfl <| j_iadd d_Mo_compareShort_154 <| j_iload d_Mo_compareShort_155 rfl <| j_iast d_Mo_compareShort_157 hk2 r3 r3' <| j_iinc d_Mo_compareShort_158 rfl rfl rfl <| j_goto d_Mo_compareShort_161 k1
theorem s_Mo_compareShort_164 {G : j_G} {d B S N : Nat} {K : Nat → Option (Nat × Nat)} {M : Nat → Int → Int} {g : Nat → Int → Option Nat} {Q : j_O → j_S → Prop} {a0 : Nat} {x1 x2 x3 x4 x5 x6 : Int} {u7 u8 u9 u10 : j_V}  (k1 : j_J G jm_Mo_compareShort d B S 3 [jr_ a0, ji_ x1, ji_ x2, ji_ x3, ji_ x4, ji_ (x5 + (-1)), ji_ x6, u7, u8, u9, u10] [] (N, K, M, g) Q) : j_J G jm_Mo_compareShort d B S 164 [jr_ a0, ji_ x1, ji_ x2, ji_ x3, ji_ x4, ji_ x5, ji_ x6, u7, u8, u9, u10] [] (N, K, M, g) Q :=
  j_iinc d_Mo_compareShort_164 rfl rfl rfl <| j_goto d_Mo_compareShort_167 k1
theorem s_Mo_compareShort_170 {G : j_G} {d B S N : Nat} {K : Nat → Option (Nat × Nat)} {M : Nat → Int → Int} {g : Nat → Int → Option Nat} {Q : j_O → j_S → Prop} {a0 : Nat} {x1 x2 x3 x4 x5 : Int} {u6 u7 u8 u9 u10 : j_V}  (k1 : j_J G jm_Mo_compareShort d B S 176 [jr_ a0, ji_ x1, ji_ x2, ji_ x3, ji_ x4, ji_ x1, ji_ x3, u7, u8, u9, u10] [] (N, K, M, g) Q) : j_J G jm_Mo_compareShort d B S 170 [jr_ a0, ji_ x1, ji_ x2, ji_ x3, ji_ x4, ji_ x5, u6, u7, u8, u9, u10] [] (N, K, M, g) Q :=
  j_iload_n d_Mo_compareShort_170 rfl <| j_istore d_Mo_compareShort_171 rfl rfl <| j_iload_n d_Mo_compareShort_173 rfl <| j_istore d_Mo_compareShort_174 rfl rfl <| k1
theorem s_Mo_compareShort_176 {G : j_G} {d B S N : Nat} {K : Nat → Option (Nat × Nat)} {M : Nat → Int → Int} {g : Nat → Int → Option Nat} {Q : j_O → j_S → Prop} {a0 : Nat} {x1 x2 x3 x4 x5 x6 : Int} {u7 u8 u9 u10 : j_V} (r1 : -2147483648 ≤ x5 ∧ x5 ≤ 2147483647 := by omega) (r2 : -2147483648 ≤ x2 ∧ x2 ≤ 2147483647 := by omega) (k1 : x2 ≤ x5 → Q (.inl none) (N, K, M, g)) (k2 : x5 < x2 → j_J G jm_Mo_compareShort d B S 182 [jr_ a0, ji_ x1, ji_ x2, ji_ x3, ji_ x4, ji_ x5, ji_ x6, u7, u8, u9, u10] [] (N, K, M, g) Q) : j_J G jm_Mo_compareShort d B S 176 [jr_ a0, ji_ x1, ji_ x2, ji_ x3, ji_ x4, ji_ x5, ji_ x6, u7, u8, u9, u10] [] (N, K, M, g) Q :=
  j_iload d_Mo_compareShort_176 rfl <| j_iload_n d_Mo_compareShort_178 rfl <| j_icmp_ge d_Mo_compareShort_179 r1 r2 (fun h => j_vreturn d_Mo_compareShort_270 rfl <| k1 h) k2
theorem s_Mo_compareShort_182 {G : j_G} {d B S N : Nat} {K : Nat → Option (Nat × Nat)} {M : Nat → Int → Int} {g : Nat → Int → Option Nat} {Q : j_O → j_S → Prop} {a0 : Nat} {x1 x2 x3 x4 x5 x6 : Int} {u7 u8 u9 u10 : j_V} (r1 : -2147483648 ≤ x6 ∧ x6 ≤ 2147483647 := by omega) (r2 : -2147483648 ≤ x4 ∧ x4 ≤ 2147483647 := by omega) (k1 : x4 ≤ x6 → Q (.inl none) (N, K, M, g)) (k2 : x6 < x4 → j_J G jm_Mo_compareShort d B S 189 [jr_ a0, ji_ x1, ji_ x2, ji_ x3, ji_ x4, ji_ x5, ji_ x6, u7, u8, u9, u10] [] (N, K, M, g) Q) : j_J G jm_Mo_compareShort d B S 182 [jr_ a0, ji_ x1, ji_ x2, ji_ x3, ji_ x4, ji_ x5, ji_ x6, u7, u8, u9, u10] [] (N, K, M, g) Q :=
  j_iload d_Mo_compareShort_182 rfl <| j_iload d_Mo_compareShort_184 rfl <| j_icmp_ge d_Mo_compareShort_186 r1 r2 (fun h => j_vreturn d_Mo_compareShort_270 rfl <| k1 h) k2
theorem s_Mo_compareShort_189 {G : j_G} {d B S N : Nat} {K : Nat → Option (Nat × Nat)} {M : Nat → Int → Int} {g : Nat → Int → Option Nat} {Q : j_O → j_S → Prop} {a0 y1 n2 y4 n3 : Nat} {x1 x2 x3 x4 x5 x6 : Int} {u7 u8 u9 u10 : j_V} (hk1 : K a0 = some (0, 8)) (hg2 : g a0 4 = some y1) (hk2 : K y1 = some (1, n2)) (r3 : 0 ≤ x5 := by omega) (r3' : x5 < (n2 : Int) := by omega) (hg5 : g a0 5 = some y4) (hk3 : K y4 = some (1, n3)) (r6 : 0 ≤ x6 := by omega) (r6' : x6 < (n3 : Int) := by omega) (r7 : -2147483648 ≤ (M y1 x5) ∧ (M y1 x5) ≤ 2147483647 := by omega) (r8 : -2147483648 ≤ (M y4 x6) ∧ (M y4 x6) ≤ 2147483647 := by omega) (k1 : (M y1 x5) ≠ (M y4 x6) → j_J G jm_Mo_compareShort d B S 224 [jr_ a0, ji_ x1, ji_ x2, ji_ x3, ji_ x4, ji_ x5, ji_ x6, u7, u8, u9, u10] [] (N, K, M, g) Q) (k2 : (M y1 x5) = (M y4 x6) → j_J G jm_Mo_compareShort d B S 206 [jr_ a0, ji_ x1, ji_ x2, ji_ x3, ji_ x4, ji_ x5, ji_ x6, u7, u8, u9, u10] [] (N, K, M, g) Q) : j_J G jm_Mo_compareShort d B S 189 [jr_ a0, ji_ x1, ji_ x2, ji_ x3, ji_ x4, ji_ x5, ji_ x6, u7, u8, u9, u10] [] (N, K, M, g) Q :=
  j_aload_n d_Mo_compareShort_189 rfl <| j_getR d_Mo_compareShort_190 f_Mo_16 hk1 hg2 <| j_iload d_Mo_compareShort_193 rfl <| j_iald d_Mo_compareShort_195 hk2 r3 r3' <| j_aload_n d_Mo_compareShort_196 rfl <| j_getR d_Mo_compareShort_197 f_Mo_19 hk1 hg5 <| j_iload d_Mo_compareShort_200 rfl <| j_iald d_Mo_compareShort_202 hk3 r6 r6' <| j_icmp_ne d_Mo_compareShort_203 r7 r8 k1 k2
theorem s_Mo_compareShort_206 {G : j_G} {d B S N : Nat} {K : Nat → Option (Nat × Nat)} {M : Nat → Int → Int} {g : Nat → Int → Option Nat} {Q : j_O → j_S → Prop} {a0 y1 n2 : Nat} {x1 x2 x3 x4 x5 x6 : Int} {u7 u8 u9 u10 : j_V} (hk1 : K a0 = some (0, 8)) (hg2 : g a0 6 = some y1) (hk2 : K y1 = some (1, n2)) (r3 : 0 ≤ x5 := by omega) (r3' : x5 < (n2 : Int) := by omega) (k1 : j_J G jm_Mo_compareShort d B S 176 [jr_ a0, ji_ x1, ji_ x2, ji_ x3, ji_ x4, ji_ (x5 + 1), ji_ (x6 + 1), u7, u8, u9, u10] [] (N, K, (j_up M y1 x5 x6), g) Q) : j_J G jm_Mo_compareShort d B S 206 [jr_ a0, ji_ x1, ji_ x2, ji_ x3, ji_ x4, ji_ x5, ji_ x6, u7, u8, u9, u10] [] (N, K, M, g) Q :=
  j_aload_n d_Mo_compareShort_206 rfl <| j_getR d_Mo_compareShort_207 f_Mo_22 hk1 hg2 <| j_iload d_Mo_compareShort_210 rfl <| j_iload d_Mo_compareShort_212 rfl <| j_iast d_Mo_compareShort_214 hk2 r3 r3' <| j_iinc d_Mo_compareShort_215 rfl rfl rfl <| j_iinc d_Mo_compareShort_218 rfl rfl rfl <| j_goto d_Mo_compareShort_221 k1
theorem s_Mo_compareShort_224 {G : j_G} {d B S N : Nat} {K : Nat → Option (Nat × Nat)} {M : Nat → Int → Int} {g : Nat → Int → Option Nat} {Q : j_O → j_S → Prop} {a0 y1 n2 : Nat} {x1 x2 x3 x4 x5 x6 : Int} {u7 u8 u9 u10 : j_V} (hk1 : K a0 = some (0, 8)) (hg2 : g a0 7 = some y1) (hk2 : K y1 = some (1, n2)) (r3 : 0 ≤ (((25 * x5) + 25) + x6) := by omega) (r3' : (((25 * x5) + 25) + x6) < (n2 : Int) := by omega) (r4 : 0 ≤ (((25 * x5) + x6) + 1) := by omega) (r4' : (((25 * x5) + x6) + 1) < (n2 : Int) := by omega) (r5 : -2147483648 ≤ (M y1 (((25 * x5) + 25) + x6)) ∧ (M y1 (((25 * x5) + 25) + x6)) ≤ 2147483647 := by omega) (r6 : -2147483648 ≤ (M y1 (((25 * x5) + x6) + 1)) ∧ (M y1 (((25 * x5) + x6) + 1)) ≤ 2147483647 := by omega) (k1 : (M y1 (((25 * x5) + 25) + x6)) < (M y1 (((25 * x5) + x6) + 1)) → j_J G jm_Mo_compareShort d B S 176 [jr_ a0, ji_ x1, ji_ x2, ji_ x3, ji_ x4, ji_ x5, ji_ (x6 + 1), u7, u8, u9, u10] [] (N, K, M, g) Q) (k2 : (M y1 (((25 * x5) + x6) + 1)) ≤ (M y1 (((25 * x5) + 25) + x6)) → j_J G jm_Mo_compareShort d B S 176 [jr_ a0, ji_ x1, ji_ x2, ji_ x3, ji_ x4, ji_ (x5 + 1), ji_ x6, u7, u8, u9, u10] [] (N, K, M, g) Q) : j_J G jm_Mo_compareShort d B S 224 [jr_ a0, ji_ x1, ji_ x2, ji_ x3, ji_ x4, ji_ x5, ji_ x6, u7, u8, u9, u10] [] (N, K, M, g) Q :=
  j_aload_n d_Mo_compareShort_224 rfl <| j_getR d_Mo_compareShort_225 f_Mo_25 hk1 hg2 <| j_bipush d_Mo_compareShort_228 (by decide) <| j_iload d_Mo_compareShort_230 rfl <| j_imul d_Mo_compareShort_232 <| j_bipush d_Mo_compareShort_233 (by decide) <| j_iadd d_Mo_compareShort_235 <| j_iload d_Mo_compareShort_236 rfl <| j_iadd d_Mo_compareShort_238 <| j_iald d_Mo_compareShort_239 hk2 r3 r3' <| j_aload_n d_Mo_compareShort_240 rfl <| j_getR d_Mo_compareShort_241 f_Mo_25 hk1 hg2 <| j_bipush d_Mo_compareShort_244 (by decide) <| j_iload d_Mo_compareShort_246 rfl <| j_imul d_Mo_compareShort_248 <| j_iload d_Mo_compareShort_249 rfl <| j_iadd d_Mo_compareShort_251 <| j_iconst d_Mo_compareShort_252 <| j_iadd d_Mo_compareShort_253 <| j_iald d_Mo_compareShort_254 hk2 r4 r4' <| j_icmp_lt d_Mo_compareShort_255 r5 r6 (fun h => j_iinc d_Mo_compareShort_264 rfl rfl rfl <| j_goto d_Mo_compareShort_267 <| k1 h) (fun h => j_iinc d_Mo_compareShort_258 rfl rfl rfl <| j_goto d_Mo_compareShort_261 <| k2 h)
theorem s_Mo_compareShort_258 {G : j_G} {d B S N : Nat} {K : Nat → Option (Nat × Nat)} {M : Nat → Int → Int} {g : Nat → Int → Option Nat} {Q : j_O → j_S → Prop} {a0 : Nat} {x1 x2 x3 x4 x5 x6 : Int} {u7 u8 u9 u10 : j_V}  (k1 : j_J G jm_Mo_compareShort d B S 176 [jr_ a0, ji_ x1, ji_ x2, ji_ x3, ji_ x4, ji_ (x5 + 1), ji_ x6, u7, u8, u9, u10] [] (N, K, M, g) Q) : j_J G jm_Mo_compareShort d B S 258 [jr_ a0, ji_ x1, ji_ x2, ji_ x3, ji_ x4, ji_ x5, ji_ x6, u7, u8, u9, u10] [] (N, K, M, g) Q :=
  j_iinc d_Mo_compareShort_258 rfl rfl rfl <| j_goto d_Mo_compareShort_261 k1
theorem s_Mo_compareShort_264 {G : j_G} {d B S N : Nat} {K : Nat → Option (Nat × Nat)} {M : Nat → Int → Int} {g : Nat → Int → Option Nat} {Q : j_O → j_S → Prop} {a0 : Nat} {x1 x2 x3 x4 x5 x6 : Int} {u7 u8 u9 u10 : j_V}  (k1 : j_J G jm_Mo_compareShort d B S 176 [jr_ a0, ji_ x1, ji_ x2, ji_ x3, ji_ x4, ji_ x5, ji_ (x6 + 1), u7, u8, u9, u10] [] (N, K, M, g) Q) : j_J G jm_Mo_compareShort d B S 264 [jr_ a0, ji_ x1, ji_ x2, ji_ x3, ji_ x4, ji_ x5, ji_ x6, u7, u8, u9, u10] [] (N, K, M, g) Q :=
  j_iinc d_Mo_compareShort_264 rfl rfl rfl <| j_goto d_Mo_compareShort_267 k1
theorem s_Mo_compareShort_270 {G : j_G} {d B S N : Nat} {K : Nat → Option (Nat × Nat)} {M : Nat → Int → Int} {g : Nat → Int → Option Nat} {Q : j_O → j_S → Prop} {a0 : Nat} {x1 x2 x3 x4 x5 x6 : Int} {u7 u8 u9 u10 : j_V}  (k1 : Q (.inl none) (N, K, M, g)) : j_J G jm_Mo_compareShort d B S 270 [jr_ a0, ji_ x1, ji_ x2, ji_ x3, ji_ x4, ji_ x5, ji_ x6, u7, u8, u9, u10] [] (N, K, M, g) Q :=
  j_vreturn d_Mo_compareShort_270 rfl k1
theorem s_Mo_await_0 {G : j_G} {d B S N : Nat} {K : Nat → Option (Nat × Nat)} {M : Nat → Int → Int} {g : Nat → Int → Option Nat} {Q : j_O → j_S → Prop} {a0 y1 n2 y4 n3 y7 n4 y10 n5 : Nat} {x1 x2 x3 x4 : Int} (hk1 : K a0 = some (0, 8)) (hg2 : g a0 9 = some y1) (hk2 : K y1 = some (1, n2)) (r3 : 0 ≤ (M a0 8) := by omega) (r3' : (M a0 8) < (n2 : Int) := by omega) (hg5 : g a0 10 = some y4) (hk3 : K y4 = some (1, n3)) (r6 : 0 ≤ ((j_up M y1 (M a0 8) x1) a0 8) := by omega) (r6' : ((j_up M y1 (M a0 8) x1) a0 8) < (n3 : Int) := by omega) (hg8 : g a0 11 = some y7) (hk4 : K y7 = some (1, n4)) (r9 : 0 ≤ ((j_up (j_up M y1 (M a0 8) x1) y4 ((j_up M y1 (M a0 8) x1) a0 8) x2) a0 8) := by omega) (r9' : ((j_up (j_up M y1 (M a0 8) x1) y4 ((j_up M y1 (M a0 8) x1) a0 8) x2) a0 8) < (n4 : Int) := by omega) (hg11 : g a0 12 = some y10) (hk5 : K y10 = some (1, n5)) (r12 : 0 ≤ ((j_up (j_up (j_up M y1 (M a0 8) x1) y4 ((j_up M y1 (M a0 8) x1) a0 8) x2) y7 ((j_up (j_up M y1 (M a0 8) x1) y4 ((j_up M y1 (M a0 8) x1) a0 8) x2) a0 8) x3) a0 8) := by omega) (r12' : ((j_up (j_up (j_up M y1 (M a0 8) x1) y4 ((j_up M y1 (M a0 8) x1) a0 8) x2) y7 ((j_up (j_up M y1 (M a0 8) x1) y4 ((j_up M y1 (M a0 8) x1) a0 8) x2) a0 8) x3) a0 8) < (n5 : Int) := by omega) (k1 : Q (.inl none) (N, K, (j_up (j_up (j_up (j_up (j_up M y1 (M a0 8) x1) y4 ((j_up M y1 (M a0 8) x1) a0 8) x2) y7 ((j_up (j_up M y1 (M a0 8) x1) y4 ((j_up M y1 (M a0 8) x1) a0 8) x2) a0 8) x3) y10 ((j_up (j_up (j_up M y1 (M a0 8) x1) y4 ((j_up M y1 (M a0 8) x1) a0 8) x2) y7 ((j_up (j_up M y1 (M a0 8) x1) y4 ((j_up M y1 (M a0 8) x1) a0 8) x2) a0 8) x3) a0 8) x4) a0 8 (((j_up (j_up (j_up (j_up M y1 (M a0 8) x1) y4 ((j_up M y1 (M a0 8) x1) a0 8) x2) y7 ((j_up (j_up M y1 (M a0 8) x1) y4 ((j_up M y1 (M a0 8) x1) a0 8) x2) a0 8) x3) y10 ((j_up (j_up (j_up M y1 (M a0 8) x1) y4 ((j_up M y1 (M a0 8) x1) a0 8) x2) y7 ((j_up (j_up M y1 (M a0 8) x1) y4 ((j_up M y1 (M a0 8) x1) a0 8) x2) a0 8) x3) a0 8) x4) a0 8) + 1)), g)) : j_J G jm_Mo_await d B S 0 [jr_ a0, ji_ x1, ji_ x2, ji_ x3, ji_ x4] [] (N, K, M, g) Q :=
  j_aload_n d_Mo_await_0 rfl <| j_getR d_Mo_await_1 f_Mo_28 hk1 hg2 <| j_aload_n d_Mo_await_4 rfl <| j_getI d_Mo_await_5 f_Mo_103 hk1 <| j_iload_n d_Mo_await_8 rfl <| j_iast d_Mo_await_9 hk2 r3 r3' <| j_aload_n d_Mo_await_10 rfl <| j_getR d_Mo_await_11 f_Mo_31 hk1 hg5 <| j_aload_n d_Mo_await_14 rfl <| j_getI d_Mo_await_15 f_Mo_103 hk1 <| j_iload_n d_Mo_await_18 rfl <| j_iast d_Mo_await_19 hk3 r6 r6' <| j_aload_n d_Mo_await_20 rfl <| j_getR d_Mo_await_21 f_Mo_34 hk1 hg8 <| j_aload_n d_Mo_await_24 rfl <| j_getI d_Mo_await_25 f_Mo_103 hk1 <| j_iload_n d_Mo_await_28 rfl <| j_iast d_Mo_await_29 hk4 r9 r9' <| j_aload_n d_Mo_await_30 rfl <| j_getR d_Mo_await_31 f_Mo_37 hk1 hg11 <| j_aload_n d_Mo_await_34 rfl <| j_getI d_Mo_await_35 f_Mo_103 hk1 <| j_iload d_Mo_await_38 rfl <| j_iast d_Mo_await_40 hk5 r12 r12' <| j_aload_n d_Mo_await_41 rfl <| j_dupR d_Mo_await_42 <| j_getI d_Mo_await_43 f_Mo_103 hk1 <| j_iconst d_Mo_await_46 <| j_iadd d_Mo_await_47 <| j_putI d_Mo_await_48 f_Mo_103 (⟨_, rfl, Or.inl rfl⟩) rfl hk1 <| j_vreturn d_Mo_await_51 rfl k1
theorem s_Mo_partner_0 {G : j_G} {d B S N : Nat} {K : Nat → Option (Nat × Nat)} {M : Nat → Int → Int} {g : Nat → Int → Option Nat} {Q : j_O → j_S → Prop} {a0 : Nat} {x1 x2 x3 x4 x5 : Int} {u6 u7 u8 u9 : j_V}  (k1 : j_J G jm_Mo_partner d B S 6 [jr_ a0, ji_ x1, ji_ x2, ji_ x3, ji_ x4, ji_ x5, ji_ 0, ji_ x2, u8, u9] [] (N, K, M, g) Q) : j_J G jm_Mo_partner d B S 0 [jr_ a0, ji_ x1, ji_ x2, ji_ x3, ji_ x4, ji_ x5, u6, u7, u8, u9] [] (N, K, M, g) Q :=
  j_iconst d_Mo_partner_0 <| j_istore d_Mo_partner_1 rfl rfl <| j_iload_n d_Mo_partner_3 rfl <| j_istore d_Mo_partner_4 rfl rfl <| k1
theorem s_Mo_partner_6 {G : j_G} {d B S N : Nat} {K : Nat → Option (Nat × Nat)} {M : Nat → Int → Int} {g : Nat → Int → Option Nat} {Q : j_O → j_S → Prop} {a0 : Nat} {x1 x2 x3 x4 x5 x6 x7 : Int} {u8 u9 : j_V} (r1 : -2147483648 ≤ x7 ∧ x7 ≤ 2147483647 := by omega) (r2 : -2147483648 ≤ x3 ∧ x3 ≤ 2147483647 := by omega) (k1 : x3 ≤ x7 → j_J G jm_Mo_partner d B S 55 [jr_ a0, ji_ x1, ji_ x2, ji_ x3, ji_ x4, ji_ x5, ji_ x6, ji_ 0, ji_ (-1), ji_ x4] [] (N, K, M, g) Q) (k2 : x7 < x3 → j_J G jm_Mo_partner d B S 12 [jr_ a0, ji_ x1, ji_ x2, ji_ x3, ji_ x4, ji_ x5, ji_ x6, ji_ x7, u8, u9] [] (N, K, M, g) Q) : j_J G jm_Mo_partner d B S 6 [jr_ a0, ji_ x1, ji_ x2, ji_ x3, ji_ x4, ji_ x5, ji_ x6, ji_ x7, u8, u9] [] (N, K, M, g) Q :=
  j_iload d_Mo_partner_6 rfl <| j_iload_n d_Mo_partner_8 rfl <| j_icmp_ge d_Mo_partner_9 r1 r2 (fun h => j_iconst d_Mo_partner_45 <| j_istore d_Mo_partner_46 rfl rfl <| j_iconst d_Mo_partner_48 <| j_istore d_Mo_partner_49 rfl rfl <| j_iload d_Mo_partner_51 rfl <| j_istore d_Mo_partner_53 rfl rfl <| k1 h) k2
theorem s_Mo_partner_12 {G : j_G} {d B S N : Nat} {K : Nat → Option (Nat × Nat)} {M : Nat → Int → Int} {g : Nat → Int → Option Nat} {Q : j_O → j_S → Prop} {a0 y1 n2 : Nat} {x1 x2 x3 x4 x5 x6 x7 : Int} {u8 u9 : j_V} (hk1 : K a0 = some (0, 8)) (hg2 : g a0 4 = some y1) (hk2 : K y1 = some (1, n2)) (r3 : 0 ≤ x7 := by omega) (r3' : x7 < (n2 : Int) := by omega) (r4 : 0 ≤ x1 := by omega) (r4' : x1 < (n2 : Int) := by omega) (r5 : -2147483648 ≤ (M y1 x7) ∧ (M y1 x7) ≤ 2147483647 := by omega) (r6 : -2147483648 ≤ (M y1 x1) ∧ (M y1 x1) ≤ 2147483647 := by omega) (k1 : (M y1 x7) ≠ (M y1 x1) → j_J G jm_Mo_partner d B S 6 [jr_ a0, ji_ x1, ji_ x2, ji_ x3, ji_ x4, ji_ x5, ji_ x6, ji_ (x7 + 1), u8, u9] [] (N, K, M, g) Q) (k2 : (M y1 x7) = (M y1 x1) → j_J G jm_Mo_partner d B S 6 [jr_ a0, ji_ x1, ji_ x2, ji_ x3, ji_ x4, ji_ x5, ji_ (x6 + 1), ji_ (x7 + 1), u8, u9] [] (N, K, M, g) Q) : j_J G jm_Mo_partner d B S 12 [jr_ a0, ji_ x1, ji_ x2, ji_ x3, ji_ x4, ji_ x5, ji_ x6, ji_ x7, u8, u9] [] (N, K, M, g) Q :=
  j_aload_n d_Mo_partner_12 rfl <| j_getR d_Mo_partner_13 f_Mo_16 hk1 hg2 <| j_iload d_Mo_partner_16 rfl <| j_iald d_Mo_partner_18 hk2 r3 r3' <| j_aload_n d_Mo_partner_19 rfl <| j_getR d_Mo_partner_20 f_Mo_16 hk1 hg2 <| j_iload_n d_Mo_partner_23 rfl <| j_iald d_Mo_partner_24 hk2 r4 r4' <| j_icmp_ne d_Mo_partner_25 r5 r6 (fun h => j_iload d_Mo_partner_35 rfl <| j_istore d_Mo_partner_37 rfl rfl <| j_iinc d_Mo_partner_39 rfl rfl rfl <| j_goto d_Mo_partner_42 <| k1 h) (fun h => j_iload d_Mo_partner_28 rfl <| j_iconst d_Mo_partner_30 <| j_iadd d_Mo_partner_31 <| j_goto d_Mo_partner_32 <| j_istore d_Mo_partner_37 rfl rfl <| j_iinc d_Mo_partner_39 rfl rfl rfl <| j_goto d_Mo_partner_42 <| k2 h)
theorem s_Mo_partner_28 {G : j_G} {d B S N : Nat} {K : Nat → Option (Nat × Nat)} {M : Nat → Int → Int} {g : Nat → Int → Option Nat} {Q : j_O → j_S → Prop} {a0 : Nat} {x1 x2 x3 x4 x5 x6 x7 : Int} {u8 u9 : j_V}  (k1 : j_J G jm_Mo_partner d B S 6 [jr_ a0, ji_ x1, ji_ x2, ji_ x3, ji_ x4, ji_ x5, ji_ (x6 + 1), ji_ (x7 + 1), u8, u9] [] (N, K, M, g) Q) : j_J G jm_Mo_partner d B S 28 [jr_ a0, ji_ x1, ji_ x2, ji_ x3, ji_ x4, ji_ x5, ji_ x6, ji_ x7, u8, u9] [] (N, K, M, g) Q :=
  j_iload d_Mo_partner_28 rfl <| j_iconst d_Mo_partner_30 <| j_iadd d_Mo_partner_31 <| j_goto d_Mo_partner_32 (j_istore d_Mo_partner_37 rfl rfl <| j_iinc d_Mo_partner_39 rfl rfl rfl <| j_goto d_Mo_partner_42 <| k1)
theorem s_Mo_partner_35 {G : j_G} {d B S N : Nat} {K : Nat → Option (Nat × Nat)} {M : Nat → Int → Int} {g : Nat → Int → Option Nat} {Q : j_O → j_S → Prop} {a0 : Nat} {x1 x2 x3 x4 x5 x6 x7 : Int} {u8 u9 : j_V}  (k1 : j_J G jm_Mo_partner d B S 6 [jr_ a0, ji_ x1, ji_ x2, ji_ x3, ji_ x4, ji_ x5, ji_ x6, ji_ (x7 + 1), u8, u9] [] (N, K, M, g) Q) : j_J G jm_Mo_partner d B S 35 [jr_ a0, ji_ x1, ji_ x2, ji_ x3, ji_ x4, ji_ x5, ji_ x6, ji_ x7, u8, u9] [] (N, K, M, g) Q :=
  j_iload d_Mo_partner_35 rfl <| (j_istore d_Mo_partner_37 rfl rfl <| j_iinc d_Mo_partner_39 rfl rfl rfl <| j_goto d_Mo_partner_42 <| k1)
theorem s_Mo_partner_37 {G : j_G} {d B S N : Nat} {K : Nat → Option (Nat × Nat)} {M : Nat → Int → Int} {g : Nat → Int → Option Nat} {Q : j_O → j_S → Prop} {a0 : Nat} {x1 x2 x3 x4 x5 x6 x7 t0 : Int} {u8 u9 : j_V}  (k1 : j_J G jm_Mo_partner d B S 6 [jr_ a0, ji_ x1, ji_ x2, ji_ x3, ji_ x4, ji_ x5, ji_ t0, ji_ (x7 + 1), u8, u9] [] (N, K, M, g) Q) : j_J G jm_Mo_partner d B S 37 [jr_ a0, ji_ x1, ji_ x2, ji_ x3, ji_ x4, ji_ x5, ji_ x6, ji_ x7, u8, u9] [ji_ t0] (N, K, M, g) Q :=
  j_istore d_Mo_partner_37 rfl rfl <| j_iinc d_Mo_partner_39 rfl rfl rfl <| j_goto d_Mo_partner_42 k1
theorem s_Mo_partner_45 {G : j_G} {d B S N : Nat} {K : Nat → Option (Nat × Nat)} {M : Nat → Int → Int} {g : Nat → Int → Option Nat} {Q : j_O → j_S → Prop} {a0 : Nat} {x1 x2 x3 x4 x5 x6 x7 : Int} {u8 u9 : j_V}  (k1 : j_J G jm_Mo_partner d B S 55 [jr_ a0, ji_ x1, ji_ x2, ji_ x3, ji_ x4, ji_ x5, ji_ x6, ji_ 0, ji_ (-1), ji_ x4] [] (N, K, M, g) Q) : j_J G jm_Mo_partner d B S 45 [jr_ a0, ji_ x1, ji_ x2, ji_ x3, ji_ x4, ji_ x5, ji_ x6, ji_ x7, u8, u9] [] (N, K, M, g) Q :=
  j_iconst d_Mo_partner_45 <| j_istore d_Mo_partner_46 rfl rfl <| j_iconst d_Mo_partner_48 <| j_istore d_Mo_partner_49 rfl rfl <| j_iload d_Mo_partner_51 rfl <| j_istore d_Mo_partner_53 rfl rfl <| k1
theorem s_Mo_partner_55 {G : j_G} {d B S N : Nat} {K : Nat → Option (Nat × Nat)} {M : Nat → Int → Int} {g : Nat → Int → Option Nat} {Q : j_O → j_S → Prop} {a0 : Nat} {x1 x2 x3 x4 x5 x6 x7 x8 x9 : Int} (r1 : -2147483648 ≤ x9 ∧ x9 ≤ 2147483647 := by omega) (r2 : -2147483648 ≤ x5 ∧ x5 ≤ 2147483647 := by omega) (k1 : x5 ≤ x9 → j_J G jm_Mo_partner d B S 120 [jr_ a0, ji_ x1, ji_ x2, ji_ x3, ji_ x4, ji_ x5, ji_ x6, ji_ x7, ji_ x8, ji_ x9] [] (N, K, M, g) Q) (k2 : x9 < x5 → j_J G jm_Mo_partner d B S 62 [jr_ a0, ji_ x1, ji_ x2, ji_ x3, ji_ x4, ji_ x5, ji_ x6, ji_ x7, ji_ x8, ji_ x9] [] (N, K, M, g) Q) : j_J G jm_Mo_partner d B S 55 [jr_ a0, ji_ x1, ji_ x2, ji_ x3, ji_ x4, ji_ x5, ji_ x6, ji_ x7, ji_ x8, ji_ x9] [] (N, K, M, g) Q :=
  j_iload d_Mo_partner_55 rfl <| j_iload d_Mo_partner_57 rfl <| j_icmp_ge d_Mo_partner_59 r1 r2 k1 k2
theorem s_Mo_partner_62 {G : j_G} {d B S N : Nat} {K : Nat → Option (Nat × Nat)} {M : Nat → Int → Int} {g : Nat → Int → Option Nat} {Q : j_O → j_S → Prop} {a0 y1 n2 y4 n3 : Nat} {x1 x2 x3 x4 x5 x6 x7 x8 x9 : Int} (hk1 : K a0 = some (0, 8)) (hg2 : g a0 5 = some y1) (hk2 : K y1 = some (1, n2)) (r3 : 0 ≤ x9 := by omega) (r3' : x9 < (n2 : Int) := by omega) (hg5 : g a0 4 = some y4) (hk3 : K y4 = some (1, n3)) (r6 : 0 ≤ x1 := by omega) (r6' : x1 < (n3 : Int) := by omega) (r7 : -2147483648 ≤ (M y1 x9) ∧ (M y1 x9) ≤ 2147483647 := by omega) (r8 : -2147483648 ≤ (M y4 x1) ∧ (M y4 x1) ≤ 2147483647 := by omega) (k1 : (M y1 x9) ≠ (M y4 x1) → j_J G jm_Mo_partner d B S 87 [jr_ a0, ji_ x1, ji_ x2, ji_ x3, ji_ x4, ji_ x5, ji_ x6, ji_ x7, ji_ x8, ji_ x9] [ji_ x7] (N, K, M, g) Q) (k2 : (M y1 x9) = (M y4 x1) → j_J G jm_Mo_partner d B S 87 [jr_ a0, ji_ x1, ji_ x2, ji_ x3, ji_ x4, ji_ x5, ji_ x6, ji_ x7, ji_ x8, ji_ x9] [ji_ (x7 + 1)] (N, K, M, g) Q) : j_J G jm_Mo_partner d B S 62 [jr_ a0, ji_ x1, ji_ x2, ji_ x3, ji_ x4, ji_ x5, ji_ x6, ji_ x7, ji_ x8, ji_ x9] [] (N, K, M, g) Q :=
  j_aload_n d_Mo_partner_62 rfl <| j_getR d_Mo_partner_63 f_Mo_19 hk1 hg2 <| j_iload d_Mo_partner_66 rfl <| j_iald d_Mo_partner_68 hk2 r3 r3' <| j_aload_n d_Mo_partner_69 rfl <| j_getR d_Mo_partner_70 f_Mo_16 hk1 hg5 <| j_iload_n d_Mo_partner_73 rfl <| j_iald d_Mo_partner_74 hk3 r6 r6' <| j_icmp_ne d_Mo_partner_75 r7 r8 (fun h => j_iload d_Mo_partner_85 rfl <| k1 h) (fun h => j_iload d_Mo_partner_78 rfl <| j_iconst d_Mo_partner_80 <| j_iadd d_Mo_partner_81 <| j_goto d_Mo_partner_82 <| k2 h)
theorem s_Mo_partner_78 {G : j_G} {d B S N : Nat} {K : Nat → Option (Nat × Nat)} {M : Nat → Int → Int} {g : Nat → Int → Option Nat} {Q : j_O → j_S → Prop} {a0 : Nat} {x1 x2 x3 x4 x5 x6 x7 x8 x9 : Int}  (k1 : j_J G jm_Mo_partner d B S 87 [jr_ a0, ji_ x1, ji_ x2, ji_ x3, ji_ x4, ji_ x5, ji_ x6, ji_ x7, ji_ x8, ji_ x9] [ji_ (x7 + 1)] (N, K, M, g) Q) : j_J G jm_Mo_partner d B S 78 [jr_ a0, ji_ x1, ji_ x2, ji_ x3, ji_ x4, ji_ x5, ji_ x6, ji_ x7, ji_ x8, ji_ x9] [] (N, K, M, g) Q :=
  j_iload d_Mo_partner_78 rfl <| j_iconst d_Mo_partner_80 <| j_iadd d_Mo_partner_81 <| j_goto d_Mo_partner_82 k1
theorem s_Mo_partner_85 {G : j_G} {d B S N : Nat} {K : Nat → Option (Nat × Nat)} {M : Nat → Int → Int} {g : Nat → Int → Option Nat} {Q : j_O → j_S → Prop} {a0 : Nat} {x1 x2 x3 x4 x5 x6 x7 x8 x9 : Int}  (k1 : j_J G jm_Mo_partner d B S 87 [jr_ a0, ji_ x1, ji_ x2, ji_ x3, ji_ x4, ji_ x5, ji_ x6, ji_ x7, ji_ x8, ji_ x9] [ji_ x7] (N, K, M, g) Q) : j_J G jm_Mo_partner d B S 85 [jr_ a0, ji_ x1, ji_ x2, ji_ x3, ji_ x4, ji_ x5, ji_ x6, ji_ x7, ji_ x8, ji_ x9] [] (N, K, M, g) Q :=
  j_iload d_Mo_partner_85 rfl <| k1
theorem s_Mo_partner_87 {G : j_G} {d B S N : Nat} {K : Nat → Option (Nat × Nat)} {M : Nat → Int → Int} {g : Nat → Int → Option Nat} {Q : j_O → j_S → Prop} {a0 y1 n2 y4 n3 : Nat} {x1 x2 x3 x4 x5 x6 x7 x8 x9 t0 : Int} (hk1 : K a0 = some (0, 8)) (hg2 : g a0 5 = some y1) (hk2 : K y1 = some (1, n2)) (r3 : 0 ≤ x9 := by omega) (r3' : x9 < (n2 : Int) := by omega) (hg5 : g a0 4 = some y4) (hk3 : K y4 = some (1, n3)) (r6 : 0 ≤ x1 := by omega) (r6' : x1 < (n3 : Int) := by omega) (r7 : -2147483648 ≤ (M y1 x9) ∧ (M y1 x9) ≤ 2147483647 := by omega) (r8 : -2147483648 ≤ (M y4 x1) ∧ (M y4 x1) ≤ 2147483647 := by omega) (k1 : (M y1 x9) ≠ (M y4 x1) → j_J G jm_Mo_partner d B S 55 [jr_ a0, ji_ x1, ji_ x2, ji_ x3, ji_ x4, ji_ x5, ji_ x6, ji_ t0, ji_ x8, ji_ (x9 + 1)] [] (N, K, M, g) Q) (k2 : (M y1 x9) = (M y4 x1) → j_J G jm_Mo_partner d B S 55 [jr_ a0, ji_ x1, ji_ x2, ji_ x3, ji_ x4, ji_ x5, ji_ x6, ji_ t0, ji_ x9, ji_ (x9 + 1)] [] (N, K, M, g) Q) : j_J G jm_Mo_partner d B S 87 [jr_ a0, ji_ x1, ji_ x2, ji_ x3, ji_ x4, ji_ x5, ji_ x6, ji_ x7, ji_ x8, ji_ x9] [ji_ t0] (N, K, M, g) Q :=
  j_istore d_Mo_partner_87 rfl rfl <| j_aload_n d_Mo_partner_89 rfl <| j_getR d_Mo_partner_90 f_Mo_19 hk1 hg2 <| j_iload d_Mo_partner_93 rfl <| j_iald d_Mo_partner_95 hk2 r3 r3' <| j_aload_n d_Mo_partner_96 rfl <| j_getR d_Mo_partner_97 f_Mo_16 hk1 hg5 <| j_iload_n d_Mo_partner_100 rfl <| j_iald d_Mo_partner_101 hk3 r6 r6' <| j_icmp_ne d_Mo_partner_102 r7 r8 (fun h => j_iload d_Mo_partner_110 rfl <| j_istore d_Mo_partner_112 rfl rfl <| j_iinc d_Mo_partner_114 rfl rfl rfl <| j_goto d_Mo_partner_117 <| k1 h) (fun h => j_iload d_Mo_partner_105 rfl <| j_goto d_Mo_partner_107 <| j_istore d_Mo_partner_112 rfl rfl <| j_iinc d_Mo_partner_114 rfl rfl rfl <| j_goto d_Mo_partner_117 <| k2 h)
theorem s_Mo_partner_105 {G : j_G} {d B S N : Nat} {K : Nat → Option (Nat × Nat)} {M : Nat → Int → Int} {g : Nat → Int → Option Nat} {Q : j_O → j_S → Prop} {a0 : Nat} {x1 x2 x3 x4 x5 x6 x7 x8 x9 : Int}  (k1 : j_J G jm_Mo_partner d B S 55 [jr_ a0, ji_ x1, ji_ x2, ji_ x3, ji_ x4, ji_ x5, ji_ x6, ji_ x7, ji_ x9, ji_ (x9 + 1)] [] (N, K, M, g) Q) : j_J G jm_Mo_partner d B S 105 [jr_ a0, ji_ x1, ji_ x2, ji_ x3, ji_ x4, ji_ x5, ji_ x6, ji_ x7, ji_ x8, ji_ x9] [] (N, K, M, g) Q :=
  j_iload d_Mo_partner_105 rfl <| j_goto d_Mo_partner_107 (j_istore d_Mo_partner_112 rfl rfl <| j_iinc d_Mo_partner_114 rfl rfl rfl <| j_goto d_Mo_partner_117 <| k1)
theorem s_Mo_partner_110 {G : j_G} {d B S N : Nat} {K : Nat → Option (Nat × Nat)} {M : Nat → Int → Int} {g : Nat → Int → Option Nat} {Q : j_O → j_S → Prop} {a0 : Nat} {x1 x2 x3 x4 x5 x6 x7 x8 x9 : Int}  (k1 : j_J G jm_Mo_partner d B S 55 [jr_ a0, ji_ x1, ji_ x2, ji_ x3, ji_ x4, ji_ x5, ji_ x6, ji_ x7, ji_ x8, ji_ (x9 + 1)] [] (N, K, M, g) Q) : j_J G jm_Mo_partner d B S 110 [jr_ a0, ji_ x1, ji_ x2, ji_ x3, ji_ x4, ji_ x5, ji_ x6, ji_ x7, ji_ x8, ji_ x9] [] (N, K, M, g) Q :=
  j_iload d_Mo_partner_110 rfl <| (j_istore d_Mo_partner_112 rfl rfl <| j_iinc d_Mo_partner_114 rfl rfl rfl <| j_goto d_Mo_partner_117 <| k1)
theorem s_Mo_partner_112 {G : j_G} {d B S N : Nat} {K : Nat → Option (Nat × Nat)} {M : Nat → Int → Int} {g : Nat → Int → Option Nat} {Q : j_O → j_S → Prop} {a0 : Nat} {x1 x2 x3 x4 x5 x6 x7 x8 x9 t0 : Int}  (k1 : j_J G jm_Mo_partner d B S 55 [jr_ a0, ji_ x1, ji_ x2, ji_ x3, ji_ x4, ji_ x5, ji_ x6, ji_ x7, ji_ t0, ji_ (x9 + 1)] [] (N, K, M, g) Q) : j_J G jm_Mo_partner d B S 112 [jr_ a0, ji_ x1, ji_ x2, ji_ x3, ji_ x4, ji_ x5, ji_ x6, ji_ x7, ji_ x8, ji_ x9] [ji_ t0] (N, K, M, g) Q :=
  j_istore d_Mo_partner_112 rfl rfl <| j_iinc d_Mo_partner_114 rfl rfl rfl <| j_goto d_Mo_partner_117 k1
theorem s_Mo_partner_120 {G : j_G} {d B S N : Nat} {K : Nat → Option (Nat × Nat)} {M : Nat → Int → Int} {g : Nat → Int → Option Nat} {Q : j_O → j_S → Prop} {a0 : Nat} {x1 x2 x3 x4 x5 x6 x7 x8 x9 : Int} (r1 : -2147483648 ≤ x6 ∧ x6 ≤ 2147483647 := by omega) (k1 : x6 ≠ 1 → Q (.inl (some (ji_ (-1)))) (N, K, M, g)) (k2 : x6 = 1 → j_J G jm_Mo_partner d B S 126 [jr_ a0, ji_ x1, ji_ x2, ji_ x3, ji_ x4, ji_ x5, ji_ x6, ji_ x7, ji_ x8, ji_ x9] [] (N, K, M, g) Q) : j_J G jm_Mo_partner d B S 120 [jr_ a0, ji_ x1, ji_ x2, ji_ x3, ji_ x4, ji_ x5, ji_ x6, ji_ x7, ji_ x8, ji_ x9] [] (N, K, M, g) Q :=
  j_iload d_Mo_partner_120 rfl <| j_iconst d_Mo_partner_122 <| j_icmp_ne d_Mo_partner_123 r1 (by decide) (fun h => j_iconst d_Mo_partner_137 <| j_ireturn d_Mo_partner_138 rfl <| k1 h) k2
theorem s_Mo_partner_126 {G : j_G} {d B S N : Nat} {K : Nat → Option (Nat × Nat)} {M : Nat → Int → Int} {g : Nat → Int → Option Nat} {Q : j_O → j_S → Prop} {a0 : Nat} {x1 x2 x3 x4 x5 x6 x7 x8 x9 : Int} (r1 : -2147483648 ≤ x7 ∧ x7 ≤ 2147483647 := by omega) (k1 : x7 ≠ 1 → Q (.inl (some (ji_ (-1)))) (N, K, M, g)) (k2 : x7 = 1 → Q (.inl (some (ji_ x8))) (N, K, M, g)) : j_J G jm_Mo_partner d B S 126 [jr_ a0, ji_ x1, ji_ x2, ji_ x3, ji_ x4, ji_ x5, ji_ x6, ji_ x7, ji_ x8, ji_ x9] [] (N, K, M, g) Q :=
  j_iload d_Mo_partner_126 rfl <| j_iconst d_Mo_partner_128 <| j_icmp_ne d_Mo_partner_129 r1 (by decide) (fun h => j_iconst d_Mo_partner_137 <| j_ireturn d_Mo_partner_138 rfl <| k1 h) (fun h => j_iload d_Mo_partner_132 rfl <| j_goto d_Mo_partner_134 <| j_ireturn d_Mo_partner_138 rfl <| k2 h)
theorem s_Mo_partner_132 {G : j_G} {d B S N : Nat} {K : Nat → Option (Nat × Nat)} {M : Nat → Int → Int} {g : Nat → Int → Option Nat} {Q : j_O → j_S → Prop} {a0 : Nat} {x1 x2 x3 x4 x5 x6 x7 x8 x9 : Int}  (k1 : Q (.inl (some (ji_ x8))) (N, K, M, g)) : j_J G jm_Mo_partner d B S 132 [jr_ a0, ji_ x1, ji_ x2, ji_ x3, ji_ x4, ji_ x5, ji_ x6, ji_ x7, ji_ x8, ji_ x9] [] (N, K, M, g) Q :=
  j_iload d_Mo_partner_132 rfl <| j_goto d_Mo_partner_134 (j_ireturn d_Mo_partner_138 rfl <| k1)
theorem s_Mo_partner_137 {G : j_G} {d B S N : Nat} {K : Nat → Option (Nat × Nat)} {M : Nat → Int → Int} {g : Nat → Int → Option Nat} {Q : j_O → j_S → Prop} {a0 : Nat} {x1 x2 x3 x4 x5 x6 x7 x8 x9 : Int}  (k1 : Q (.inl (some (ji_ (-1)))) (N, K, M, g)) : j_J G jm_Mo_partner d B S 137 [jr_ a0, ji_ x1, ji_ x2, ji_ x3, ji_ x4, ji_ x5, ji_ x6, ji_ x7, ji_ x8, ji_ x9] [] (N, K, M, g) Q :=
  j_iconst d_Mo_partner_137 <| (j_ireturn d_Mo_partner_138 rfl <| k1)
theorem s_Mo_partner_138 {G : j_G} {d B S N : Nat} {K : Nat → Option (Nat × Nat)} {M : Nat → Int → Int} {g : Nat → Int → Option Nat} {Q : j_O → j_S → Prop} {a0 : Nat} {x1 x2 x3 x4 x5 x6 x7 x8 x9 t0 : Int}  (k1 : Q (.inl (some (ji_ t0))) (N, K, M, g)) : j_J G jm_Mo_partner d B S 138 [jr_ a0, ji_ x1, ji_ x2, ji_ x3, ji_ x4, ji_ x5, ji_ x6, ji_ x7, ji_ x8, ji_ x9] [ji_ t0] (N, K, M, g) Q :=
  j_ireturn d_Mo_partner_138 rfl k1
theorem s_Mo_findRanks_0 {G : j_G} {d B S N : Nat} {K : Nat → Option (Nat × Nat)} {M : Nat → Int → Int} {g : Nat → Int → Option Nat} {Q : j_O → j_S → Prop} {a0 : Nat} {x1 x2 x3 x4 : Int} {u5 u6 u7 u8 : j_V}  (k1 : j_J G jm_Mo_findRanks d B S 6 [jr_ a0, ji_ x1, ji_ x2, ji_ x3, ji_ x4, ji_ 0, ji_ x1, u7, u8] [] (N, K, M, g) Q) : j_J G jm_Mo_findRanks d B S 0 [jr_ a0, ji_ x1, ji_ x2, ji_ x3, ji_ x4, u5, u6, u7, u8] [] (N, K, M, g) Q :=
  j_iconst d_Mo_findRanks_0 <| j_istore d_Mo_findRanks_1 rfl rfl <| j_iload_n d_Mo_findRanks_3 rfl <| j_istore d_Mo_findRanks_4 rfl rfl <| k1
theorem s_Mo_findRanks_6 {G : j_G} {d B S N : Nat} {K : Nat → Option (Nat × Nat)} {M : Nat → Int → Int} {g : Nat → Int → Option Nat} {Q : j_O → j_S → Prop} {a0 : Nat} {x1 x2 x3 x4 x5 x6 : Int} {u7 u8 : j_V} (r1 : -2147483648 ≤ x6 ∧ x6 ≤ 2147483647 := by omega) (r2 : -2147483648 ≤ x2 ∧ x2 ≤ 2147483647 := by omega) (k1 : x2 ≤ x6 → Q (.inl (some (ji_ x5))) (N, K, M, g)) (k2 : x6 < x2 → j_J G jm_Mo_findRanks d B S 12 [jr_ a0, ji_ x1, ji_ x2, ji_ x3, ji_ x4, ji_ x5, ji_ x6, u7, u8] [] (N, K, M, g) Q) : j_J G jm_Mo_findRanks d B S 6 [jr_ a0, ji_ x1, ji_ x2, ji_ x3, ji_ x4, ji_ x5, ji_ x6, u7, u8] [] (N, K, M, g) Q :=
  j_iload d_Mo_findRanks_6 rfl <| j_iload_n d_Mo_findRanks_8 rfl <| j_icmp_ge d_Mo_findRanks_9 r1 r2 (fun h => j_iload d_Mo_findRanks_157 rfl <| j_ireturn d_Mo_findRanks_159 rfl <| k1 h) k2
theorem s_Mo_findRanks_12 {G : j_G} {d B S N : Nat} {K : Nat → Option (Nat × Nat)} {M : Nat → Int → Int} {g : Nat → Int → Option Nat} {Q : j_O → j_S → Prop} {a0 y1 : Nat} {x1 x2 x3 x4 x5 x6 : Int} {u7 u8 : j_V} {q : Int → (Nat → Int → Int) → Prop} (hk1 : K a0 = some (0, 8)) (hg2 : g a0 13 = some y1) (hC : j_Ct G jm_Mo_partner d 0 0 [jr_ a0, ji_ x6, ji_ x1, ji_ x2, ji_ x3, ji_ x4] (N, K, M, g) (j_pI N K g q)) (k1 : ∀ z M', q z M' → j_J G jm_Mo_findRanks (d + 1) B S 29 [jr_ a0, ji_ x1, ji_ x2, ji_ x3, ji_ x4, ji_ x5, ji_ x6, u7, u8] [ji_ z, ji_ x6, jr_ y1] (N, K, M', g) Q) : j_J G jm_Mo_findRanks (d + 1) B S 12 [jr_ a0, ji_ x1, ji_ x2, ji_ x3, ji_ x4, ji_ x5, ji_ x6, u7, u8] [] (N, K, M, g) Q :=
  j_aload_n d_Mo_findRanks_12 rfl <| j_getR d_Mo_findRanks_13 f_Mo_40 hk1 hg2 <| j_iload d_Mo_findRanks_16 rfl <| j_aload_n d_Mo_findRanks_18 rfl <| j_iload d_Mo_findRanks_19 rfl <| j_iload_n d_Mo_findRanks_21 rfl <| j_iload_n d_Mo_findRanks_22 rfl <| j_iload_n d_Mo_findRanks_23 rfl <| j_iload d_Mo_findRanks_24 rfl <| j_aVI (as := [ji_ x6, ji_ x1, ji_ x2, ji_ x3, ji_ x4]) (rest := [ji_ x6, jr_ y1]) d_Mo_findRanks_26 c_Mo_106 hk1 rfl (Nat.le_of_ble_eq_true rfl) hC k1
theorem s_Mo_findRanks_29 {G : j_G} {d B S N : Nat} {K : Nat → Option (Nat × Nat)} {M : Nat → Int → Int} {g : Nat → Int → Option Nat} {Q : j_O → j_S → Prop} {a0 b0 n1 y2 n3 y5 n4 : Nat} {x1 x2 x3 x4 x5 x6 t1 t2 : Int} {u7 u8 : j_V} (hk1 : K b0 = some (1, n1)) (r1 : 0 ≤ t1 := by omega) (r1' : t1 < (n1 : Int) := by omega) (hk2 : K a0 = some (0, 8)) (hg3 : g a0 14 = some y2) (hk3 : K y2 = some (1, n3)) (r4 : 0 ≤ x6 := by omega) (r4' : x6 < (n3 : Int) := by omega) (hg6 : g a0 13 = some y5) (hk4 : K y5 = some (1, n4)) (r7 : 0 ≤ x6 := by omega) (r7' : x6 < (n4 : Int) := by omega) (r8 : -2147483648 ≤ ((j_up (j_up M b0 t1 t2) y2 x6 0) y5 x6) ∧ ((j_up (j_up M b0 t1 t2) y2 x6 0) y5 x6) ≤ 2147483647 := by omega) (k1 : ((j_up (j_up M b0 t1 t2) y2 x6 0) y5 x6) < 0 → j_J G jm_Mo_findRanks d B S 6 [jr_ a0, ji_ x1, ji_ x2, ji_ x3, ji_ x4, ji_ x5, ji_ (x6 + 1), u7, u8] [] (N, K, (j_up (j_up M b0 t1 t2) y2 x6 0), g) Q) (k2 : 0 ≤ ((j_up (j_up M b0 t1 t2) y2 x6 0) y5 x6) → j_J G jm_Mo_findRanks d B S 54 [jr_ a0, ji_ x1, ji_ x2, ji_ x3, ji_ x4, ji_ x5, ji_ x6, ji_ 0, ji_ x1] [] (N, K, (j_up (j_up M b0 t1 t2) y2 x6 0), g) Q) : j_J G jm_Mo_findRanks d B S 29 [jr_ a0, ji_ x1, ji_ x2, ji_ x3, ji_ x4, ji_ x5, ji_ x6, u7, u8] [ji_ t2, ji_ t1, jr_ b0] (N, K, M, g) Q :=
  j_iast d_Mo_findRanks_29 hk1 r1 r1' <| j_aload_n d_Mo_findRanks_30 rfl <| j_getR d_Mo_findRanks_31 f_Mo_43 hk2 hg3 <| j_iload d_Mo_findRanks_34 rfl <| j_iconst d_Mo_findRanks_36 <| j_iast d_Mo_findRanks_37 hk3 r4 r4' <| j_aload_n d_Mo_findRanks_38 rfl <| j_getR d_Mo_findRanks_39 f_Mo_40 hk2 hg6 <| j_iload d_Mo_findRanks_42 rfl <| j_iald d_Mo_findRanks_44 hk4 r7 r7' <| j_if_lt d_Mo_findRanks_45 r8 (fun h => j_iinc d_Mo_findRanks_151 rfl rfl rfl <| j_goto d_Mo_findRanks_154 <| k1 h) (fun h => j_iconst d_Mo_findRanks_48 <| j_istore d_Mo_findRanks_49 rfl rfl <| j_iload_n d_Mo_findRanks_51 rfl <| j_istore d_Mo_findRanks_52 rfl rfl <| k2 h)
theorem s_Mo_findRanks_48 {G : j_G} {d B S N : Nat} {K : Nat → Option (Nat × Nat)} {M : Nat → Int → Int} {g : Nat → Int → Option Nat} {Q : j_O → j_S → Prop} {a0 : Nat} {x1 x2 x3 x4 x5 x6 : Int} {u7 u8 : j_V}  (k1 : j_J G jm_Mo_findRanks d B S 54 [jr_ a0, ji_ x1, ji_ x2, ji_ x3, ji_ x4, ji_ x5, ji_ x6, ji_ 0, ji_ x1] [] (N, K, M, g) Q) : j_J G jm_Mo_findRanks d B S 48 [jr_ a0, ji_ x1, ji_ x2, ji_ x3, ji_ x4, ji_ x5, ji_ x6, u7, u8] [] (N, K, M, g) Q :=
  j_iconst d_Mo_findRanks_48 <| j_istore d_Mo_findRanks_49 rfl rfl <| j_iload_n d_Mo_findRanks_51 rfl <| j_istore d_Mo_findRanks_52 rfl rfl <| k1
theorem s_Mo_findRanks_54 {G : j_G} {d B S N : Nat} {K : Nat → Option (Nat × Nat)} {M : Nat → Int → Int} {g : Nat → Int → Option Nat} {Q : j_O → j_S → Prop} {a0 : Nat} {x1 x2 x3 x4 x5 x6 x7 x8 : Int} (r1 : -2147483648 ≤ x8 ∧ x8 ≤ 2147483647 := by omega) (r2 : -2147483648 ≤ x6 ∧ x6 ≤ 2147483647 := by omega) (k1 : x6 ≤ x8 → j_J G jm_Mo_findRanks d B S 120 [jr_ a0, ji_ x1, ji_ x2, ji_ x3, ji_ x4, ji_ x5, ji_ x6, ji_ x7, ji_ x8] [] (N, K, M, g) Q) (k2 : x8 < x6 → j_J G jm_Mo_findRanks d B S 61 [jr_ a0, ji_ x1, ji_ x2, ji_ x3, ji_ x4, ji_ x5, ji_ x6, ji_ x7, ji_ x8] [] (N, K, M, g) Q) : j_J G jm_Mo_findRanks d B S 54 [jr_ a0, ji_ x1, ji_ x2, ji_ x3, ji_ x4, ji_ x5, ji_ x6, ji_ x7, ji_ x8] [] (N, K, M, g) Q :=
  j_iload d_Mo_findRanks_54 rfl <| j_iload d_Mo_findRanks_56 rfl <| j_icmp_ge d_Mo_findRanks_58 r1 r2 k1 k2
theorem s_Mo_findRanks_61 {G : j_G} {d B S N : Nat} {K : Nat → Option (Nat × Nat)} {M : Nat → Int → Int} {g : Nat → Int → Option Nat} {Q : j_O → j_S → Prop} {a0 y1 n2 : Nat} {x1 x2 x3 x4 x5 x6 x7 x8 : Int} (hk1 : K a0 = some (0, 8)) (hg2 : g a0 13 = some y1) (hk2 : K y1 = some (1, n2)) (r3 : 0 ≤ x8 := by omega) (r3' : x8 < (n2 : Int) := by omega) (r4 : -2147483648 ≤ (M y1 x8) ∧ (M y1 x8) ≤ 2147483647 := by omega) (k1 : (M y1 x8) < 0 → j_J G jm_Mo_findRanks d B S 54 [jr_ a0, ji_ x1, ji_ x2, ji_ x3, ji_ x4, ji_ x5, ji_ x6, ji_ x7, ji_ (x8 + 1)] [] (N, K, M, g) Q) (k2 : 0 ≤ (M y1 x8) → j_J G jm_Mo_findRanks d B S 71 [jr_ a0, ji_ x1, ji_ x2, ji_ x3, ji_ x4, ji_ x5, ji_ x6, ji_ x7, ji_ x8] [] (N, K, M, g) Q) : j_J G jm_Mo_findRanks d B S 61 [jr_ a0, ji_ x1, ji_ x2, ji_ x3, ji_ x4, ji_ x5, ji_ x6, ji_ x7, ji_ x8] [] (N, K, M, g) Q :=
  j_aload_n d_Mo_findRanks_61 rfl <| j_getR d_Mo_findRanks_62 f_Mo_40 hk1 hg2 <| j_iload d_Mo_findRanks_65 rfl <| j_iald d_Mo_findRanks_67 hk2 r3 r3' <| j_if_lt d_Mo_findRanks_68 r4 (fun h => j_iload d_Mo_findRanks_110 rfl <| j_istore d_Mo_findRanks_112 rfl rfl <| j_iinc d_Mo_findRanks_114 rfl rfl rfl <| j_goto d_Mo_findRanks_117 <| k1 h) k2
theorem s_Mo_findRanks_71 {G : j_G} {d B S N : Nat} {K : Nat → Option (Nat × Nat)} {M : Nat → Int → Int} {g : Nat → Int → Option Nat} {Q : j_O → j_S → Prop} {a0 y1 n2 : Nat} {x1 x2 x3 x4 x5 x6 x7 x8 : Int} (hk1 : K a0 = some (0, 8)) (hg2 : g a0 13 = some y1) (hk2 : K y1 = some (1, n2)) (r3 : 0 ≤ x8 := by omega) (r3' : x8 < (n2 : Int) := by omega) (r4 : 0 ≤ x6 := by omega) (r4' : x6 < (n2 : Int) := by omega) (r5 : -2147483648 ≤ (M y1 x8) ∧ (M y1 x8) ≤ 2147483647 := by omega) (r6 : -2147483648 ≤ (M y1 x6) ∧ (M y1 x6) ≤ 2147483647 := by omega) (k1 : (M y1 x6) ≤ (M y1 x8) → j_J G jm_Mo_findRanks d B S 54 [jr_ a0, ji_ x1, ji_ x2, ji_ x3, ji_ x4, ji_ x5, ji_ x6, ji_ x7, ji_ (x8 + 1)] [] (N, K, M, g) Q) (k2 : (M y1 x8) < (M y1 x6) → j_J G jm_Mo_findRanks d B S 88 [jr_ a0, ji_ x1, ji_ x2, ji_ x3, ji_ x4, ji_ x5, ji_ x6, ji_ x7, ji_ x8] [] (N, K, M, g) Q) : j_J G jm_Mo_findRanks d B S 71 [jr_ a0, ji_ x1, ji_ x2, ji_ x3, ji_ x4, ji_ x5, ji_ x6, ji_ x7, ji_ x8] [] (N, K, M, g) Q :=
  j_aload_n d_Mo_findRanks_71 rfl <| j_getR d_Mo_findRanks_72 f_Mo_40 hk1 hg2 <| j_iload d_Mo_findRanks_75 rfl <| j_iald d_Mo_findRanks_77 hk2 r3 r3' <| j_aload_n d_Mo_findRanks_78 rfl <| j_getR d_Mo_findRanks_79 f_Mo_40 hk1 hg2 <| j_iload d_Mo_findRanks_82 rfl <| j_iald d_Mo_findRanks_84 hk2 r4 r4' <| j_icmp_ge d_Mo_findRanks_85 r5 r6 (fun h => j_iload d_Mo_findRanks_110 rfl <| j_istore d_Mo_findRanks_112 rfl rfl <| j_iinc d_Mo_findRanks_114 rfl rfl rfl <| j_goto d_Mo_findRanks_117 <| k1 h) k2
theorem s_Mo_findRanks_88 {G : j_G} {d B S N : Nat} {K : Nat → Option (Nat × Nat)} {M : Nat → Int → Int} {g : Nat → Int → Option Nat} {Q : j_O → j_S → Prop} {a0 y1 n2 : Nat} {x1 x2 x3 x4 x5 x6 x7 x8 : Int} (hk1 : K a0 = some (0, 8)) (hg2 : g a0 14 = some y1) (hk2 : K y1 = some (1, n2)) (r3 : 0 ≤ x8 := by omega) (r3' : x8 < (n2 : Int) := by omega) (r4 : -2147483648 ≤ (M y1 x8) ∧ (M y1 x8) ≤ 2147483647 := by omega) (r5 : -2147483648 ≤ x7 ∧ x7 ≤ 2147483647 := by omega) (k1 : (M y1 x8) ≤ x7 → j_J G jm_Mo_findRanks d B S 54 [jr_ a0, ji_ x1, ji_ x2, ji_ x3, ji_ x4, ji_ x5, ji_ x6, ji_ x7, ji_ (x8 + 1)] [] (N, K, M, g) Q) (k2 : x7 < (M y1 x8) → j_J G jm_Mo_findRanks d B S 100 [jr_ a0, ji_ x1, ji_ x2, ji_ x3, ji_ x4, ji_ x5, ji_ x6, ji_ x7, ji_ x8] [] (N, K, M, g) Q) : j_J G jm_Mo_findRanks d B S 88 [jr_ a0, ji_ x1, ji_ x2, ji_ x3, ji_ x4, ji_ x5, ji_ x6, ji_ x7, ji_ x8] [] (N, K, M, g) Q :=
  j_aload_n d_Mo_findRanks_88 rfl <| j_getR d_Mo_findRanks_89 f_Mo_43 hk1 hg2 <| j_iload d_Mo_findRanks_92 rfl <| j_iald d_Mo_findRanks_94 hk2 r3 r3' <| j_iload d_Mo_findRanks_95 rfl <| j_icmp_le d_Mo_findRanks_97 r4 r5 (fun h => j_iload d_Mo_findRanks_110 rfl <| j_istore d_Mo_findRanks_112 rfl rfl <| j_iinc d_Mo_findRanks_114 rfl rfl rfl <| j_goto d_Mo_findRanks_117 <| k1 h) k2
theorem s_Mo_findRanks_100 {G : j_G} {d B S N : Nat} {K : Nat → Option (Nat × Nat)} {M : Nat → Int → Int} {g : Nat → Int → Option Nat} {Q : j_O → j_S → Prop} {a0 y1 n2 : Nat} {x1 x2 x3 x4 x5 x6 x7 x8 : Int} (hk1 : K a0 = some (0, 8)) (hg2 : g a0 14 = some y1) (hk2 : K y1 = some (1, n2)) (r3 : 0 ≤ x8 := by omega) (r3' : x8 < (n2 : Int) := by omega) (k1 : j_J G jm_Mo_findRanks d B S 54 [jr_ a0, ji_ x1, ji_ x2, ji_ x3, ji_ x4, ji_ x5, ji_ x6, ji_ (M y1 x8), ji_ (x8 + 1)] [] (N, K, M, g) Q) : j_J G jm_Mo_findRanks d B S 100 [jr_ a0, ji_ x1, ji_ x2, ji_ x3, ji_ x4, ji_ x5, ji_ x6, ji_ x7, ji_ x8] [] (N, K, M, g) Q :=
  j_aload_n d_Mo_findRanks_100 rfl <| j_getR d_Mo_findRanks_101 f_Mo_43 hk1 hg2 <| j_iload d_Mo_findRanks_104 rfl <| j_iald d_Mo_findRanks_106 hk2 r3 r3' <| j_goto d_Mo_findRanks_107 (j_istore d_Mo_findRanks_112 rfl rfl <| j_iinc d_Mo_findRanks_114 rfl rfl rfl <| j_goto d_Mo_findRanks_117 <| k1)
theorem s_Mo_findRanks_110 {G : j_G} {d B S N : Nat} {K : Nat → Option (Nat × Nat)} {M : Nat → Int → Int} {g : Nat → Int → Option Nat} {Q : j_O → j_S → Prop} {a0 : Nat} {x1 x2 x3 x4 x5 x6 x7 x8 : Int}  (k1 : j_J G jm_Mo_findRanks d B S 54 [jr_ a0, ji_ x1, ji_ x2, ji_ x3, ji_ x4, ji_ x5, ji_ x6, ji_ x7, ji_ (x8 + 1)] [] (N, K, M, g) Q) : j_J G jm_Mo_findRanks d B S 110 [jr_ a0, ji_ x1, ji_ x2, ji_ x3, ji_ x4, ji_ x5, ji_ x6, ji_ x7, ji_ x8] [] (N, K, M, g) Q :=
  j_iload d_Mo_findRanks_110 rfl <| (j_istore d_Mo_findRanks_112 rfl rfl <| j_iinc d_Mo_findRanks_114 rfl rfl rfl <| j_goto d_Mo_findRanks_117 <| k1)
theorem s_Mo_findRanks_112 {G : j_G} {d B S N : Nat} {K : Nat → Option (Nat × Nat)} {M : Nat → Int → Int} {g : Nat → Int → Option Nat} {Q : j_O → j_S → Prop} {a0 : Nat} {x1 x2 x3 x4 x5 x6 x7 x8 t0 : Int}  (k1 : j_J G jm_Mo_findRanks d B S 54 [jr_ a0, ji_ x1, ji_ x2, ji_ x3, ji_ x4, ji_ x5, ji_ x6, ji_ t0, ji_ (x8 + 1)] [] (N, K, M, g) Q) : j_J G jm_Mo_findRanks d B S 112 [jr_ a0, ji_ x1, ji_ x2, ji_ x3, ji_ x4, ji_ x5, ji_ x6, ji_ x7, ji_ x8] [ji_ t0] (N, K, M, g) Q :=
  j_istore d_Mo_findRanks_112 rfl rfl <| j_iinc d_Mo_findRanks_114 rfl rfl rfl <| j_goto d_Mo_findRanks_117 k1
theorem s_Mo_findRanks_120 {G : j_G} {d B S N : Nat} {K : Nat → Option (Nat × Nat)} {M : Nat → Int → Int} {g : Nat → Int → Option Nat} {Q : j_O → j_S → Prop} {a0 y1 n2 : Nat} {x1 x2 x3 x4 x5 x6 x7 x8 : Int} (hk1 : K a0 = some (0, 8)) (hg2 : g a0 14 = some y1) (hk2 : K y1 = some (1, n2)) (r3 : 0 ≤ x6 := by omega) (r3' : x6 < (n2 : Int) := by omega) (r4 : -2147483648 ≤ (x7 + 1) ∧ (x7 + 1) ≤ 2147483647 := by omega) (r5 : -2147483648 ≤ x5 ∧ x5 ≤ 2147483647 := by omega) (k1 : (x7 + 1) ≤ x5 → j_J G jm_Mo_findRanks d B S 6 [jr_ a0, ji_ x1, ji_ x2, ji_ x3, ji_ x4, ji_ x5, ji_ (x6 + 1), ji_ x7, ji_ x8] [] (N, K, (j_up M y1 x6 (x7 + 1)), g) Q) (k2 : x5 < (x7 + 1) → j_J G jm_Mo_findRanks d B S 6 [jr_ a0, ji_ x1, ji_ x2, ji_ x3, ji_ x4, ji_ (x7 + 1), ji_ (x6 + 1), ji_ x7, ji_ x8] [] (N, K, (j_up M y1 x6 (x7 + 1)), g) Q) : j_J G jm_Mo_findRanks d B S 120 [jr_ a0, ji_ x1, ji_ x2, ji_ x3, ji_ x4, ji_ x5, ji_ x6, ji_ x7, ji_ x8] [] (N, K, M, g) Q :=
  j_aload_n d_Mo_findRanks_120 rfl <| j_getR d_Mo_findRanks_121 f_Mo_43 hk1 hg2 <| j_iload d_Mo_findRanks_124 rfl <| j_iload d_Mo_findRanks_126 rfl <| j_iconst d_Mo_findRanks_128 <| j_iadd d_Mo_findRanks_129 <| j_iast d_Mo_findRanks_130 hk2 r3 r3' <| j_iload d_Mo_findRanks_131 rfl <| j_iconst d_Mo_findRanks_133 <| j_iadd d_Mo_findRanks_134 <| j_iload d_Mo_findRanks_135 rfl <| j_icmp_le d_Mo_findRanks_137 r4 r5 (fun h => j_iload d_Mo_findRanks_147 rfl <| j_istore d_Mo_findRanks_149 rfl rfl <| j_iinc d_Mo_findRanks_151 rfl rfl rfl <| j_goto d_Mo_findRanks_154 <| k1 h) (fun h => j_iload d_Mo_findRanks_140 rfl <| j_iconst d_Mo_findRanks_142 <| j_iadd d_Mo_findRanks_143 <| j_goto d_Mo_findRanks_144 <| j_istore d_Mo_findRanks_149 rfl rfl <| j_iinc d_Mo_findRanks_151 rfl rfl rfl <| j_goto d_Mo_findRanks_154 <| k2 h)
theorem s_Mo_findRanks_140 {G : j_G} {d B S N : Nat} {K : Nat → Option (Nat × Nat)} {M : Nat → Int → Int} {g : Nat → Int → Option Nat} {Q : j_O → j_S → Prop} {a0 : Nat} {x1 x2 x3 x4 x5 x6 x7 x8 : Int}  (k1 : j_J G jm_Mo_findRanks d B S 6 [jr_ a0, ji_ x1, ji_ x2, ji_ x3, ji_ x4, ji_ (x7 + 1), ji_ (x6 + 1), ji_ x7, ji_ x8] [] (N, K, M, g) Q) : j_J G jm_Mo_findRanks d B S 140 [jr_ a0, ji_ x1, ji_ x2, ji_ x3, ji_ x4, ji_ x5, ji_ x6, ji_ x7, ji_ x8] [] (N, K, M, g) Q :=
  j_iload d_Mo_findRanks_140 rfl <| j_iconst d_Mo_findRanks_142 <| j_iadd d_Mo_findRanks_143 <| j_goto d_Mo_findRanks_144 (j_istore d_Mo_findRanks_149 rfl rfl <| j_iinc d_Mo_findRanks_151 rfl rfl rfl <| j_goto d_Mo_findRanks_154 <| k1)
theorem s_Mo_findRanks_147 {G : j_G} {d B S N : Nat} {K : Nat → Option (Nat × Nat)} {M : Nat → Int → Int} {g : Nat → Int → Option Nat} {Q : j_O → j_S → Prop} {a0 : Nat} {x1 x2 x3 x4 x5 x6 x7 x8 : Int}  (k1 : j_J G jm_Mo_findRanks d B S 6 [jr_ a0, ji_ x1, ji_ x2, ji_ x3, ji_ x4, ji_ x5, ji_ (x6 + 1), ji_ x7, ji_ x8] [] (N, K, M, g) Q) : j_J G jm_Mo_findRanks d B S 147 [jr_ a0, ji_ x1, ji_ x2, ji_ x3, ji_ x4, ji_ x5, ji_ x6, ji_ x7, ji_ x8] [] (N, K, M, g) Q :=
  j_iload d_Mo_findRanks_147 rfl <| (j_istore d_Mo_findRanks_149 rfl rfl <| j_iinc d_Mo_findRanks_151 rfl rfl rfl <| j_goto d_Mo_findRanks_154 <| k1)
theorem s_Mo_findRanks_149 {G : j_G} {d B S N : Nat} {K : Nat → Option (Nat × Nat)} {M : Nat → Int → Int} {g : Nat → Int → Option Nat} {Q : j_O → j_S → Prop} {a0 : Nat} {x1 x2 x3 x4 x5 x6 x7 x8 t0 : Int}  (k1 : j_J G jm_Mo_findRanks d B S 6 [jr_ a0, ji_ x1, ji_ x2, ji_ x3, ji_ x4, ji_ t0, ji_ (x6 + 1), ji_ x7, ji_ x8] [] (N, K, M, g) Q) : j_J G jm_Mo_findRanks d B S 149 [jr_ a0, ji_ x1, ji_ x2, ji_ x3, ji_ x4, ji_ x5, ji_ x6, ji_ x7, ji_ x8] [ji_ t0] (N, K, M, g) Q :=
  j_istore d_Mo_findRanks_149 rfl rfl <| (j_iinc d_Mo_findRanks_151 rfl rfl rfl <| j_goto d_Mo_findRanks_154 <| k1)
theorem s_Mo_findRanks_151 {G : j_G} {d B S N : Nat} {K : Nat → Option (Nat × Nat)} {M : Nat → Int → Int} {g : Nat → Int → Option Nat} {Q : j_O → j_S → Prop} {a0 : Nat} {x1 x2 x3 x4 x5 x6 : Int} {u7 u8 : j_V}  (k1 : j_J G jm_Mo_findRanks d B S 6 [jr_ a0, ji_ x1, ji_ x2, ji_ x3, ji_ x4, ji_ x5, ji_ (x6 + 1), u7, u8] [] (N, K, M, g) Q) : j_J G jm_Mo_findRanks d B S 151 [jr_ a0, ji_ x1, ji_ x2, ji_ x3, ji_ x4, ji_ x5, ji_ x6, u7, u8] [] (N, K, M, g) Q :=
  j_iinc d_Mo_findRanks_151 rfl rfl rfl <| j_goto d_Mo_findRanks_154 k1
theorem s_Mo_findRanks_157 {G : j_G} {d B S N : Nat} {K : Nat → Option (Nat × Nat)} {M : Nat → Int → Int} {g : Nat → Int → Option Nat} {Q : j_O → j_S → Prop} {a0 : Nat} {x1 x2 x3 x4 x5 x6 : Int} {u7 u8 : j_V}  (k1 : Q (.inl (some (ji_ x5))) (N, K, M, g)) : j_J G jm_Mo_findRanks d B S 157 [jr_ a0, ji_ x1, ji_ x2, ji_ x3, ji_ x4, ji_ x5, ji_ x6, u7, u8] [] (N, K, M, g) Q :=
  j_iload d_Mo_findRanks_157 rfl <| j_ireturn d_Mo_findRanks_159 rfl k1
theorem s_Mo_standOut_0 {G : j_G} {d B S N : Nat} {K : Nat → Option (Nat × Nat)} {M : Nat → Int → Int} {g : Nat → Int → Option Nat} {Q : j_O → j_S → Prop} {a0 : Nat} {x1 x2 x3 x4 : Int} {u5 u6 u7 u8 u9 u10 u11 u12 : j_V}  (k1 : j_J G jm_Mo_standOut d B S 6 [jr_ a0, ji_ x1, ji_ x2, ji_ x3, ji_ x4, ji_ x1, ji_ x3, u7, u8, u9, u10, u11, u12] [] (N, K, M, g) Q) : j_J G jm_Mo_standOut d B S 0 [jr_ a0, ji_ x1, ji_ x2, ji_ x3, ji_ x4, u5, u6, u7, u8, u9, u10, u11, u12] [] (N, K, M, g) Q :=
  j_iload_n d_Mo_standOut_0 rfl <| j_istore d_Mo_standOut_1 rfl rfl <| j_iload_n d_Mo_standOut_3 rfl <| j_istore d_Mo_standOut_4 rfl rfl <| k1
theorem s_Mo_standOut_6 {G : j_G} {d B S N : Nat} {K : Nat → Option (Nat × Nat)} {M : Nat → Int → Int} {g : Nat → Int → Option Nat} {Q : j_O → j_S → Prop} {a0 : Nat} {x1 x2 x3 x4 x5 x6 : Int} {u7 u8 u9 u10 u11 u12 : j_V} (r1 : -2147483648 ≤ x5 ∧ x5 ≤ 2147483647 := by omega) (r2 : -2147483648 ≤ x2 ∧ x2 ≤ 2147483647 := by omega) (k1 : x2 ≤ x5 → j_J G jm_Mo_standOut d B S 61 [jr_ a0, ji_ x1, ji_ x2, ji_ x3, ji_ x4, ji_ x5, ji_ x6, ji_ x2, ji_ x4, u9, u10, u11, u12] [] (N, K, M, g) Q) (k2 : x5 < x2 → j_J G jm_Mo_standOut d B S 12 [jr_ a0, ji_ x1, ji_ x2, ji_ x3, ji_ x4, ji_ x5, ji_ x6, u7, u8, u9, u10, u11, u12] [] (N, K, M, g) Q) : j_J G jm_Mo_standOut d B S 6 [jr_ a0, ji_ x1, ji_ x2, ji_ x3, ji_ x4, ji_ x5, ji_ x6, u7, u8, u9, u10, u11, u12] [] (N, K, M, g) Q :=
  j_iload d_Mo_standOut_6 rfl <| j_iload_n d_Mo_standOut_8 rfl <| j_icmp_ge d_Mo_standOut_9 r1 r2 (fun h => j_iload_n d_Mo_standOut_54 rfl <| j_istore d_Mo_standOut_55 rfl rfl <| j_iload d_Mo_standOut_57 rfl <| j_istore d_Mo_standOut_59 rfl rfl <| k1 h) k2
theorem s_Mo_standOut_12 {G : j_G} {d B S N : Nat} {K : Nat → Option (Nat × Nat)} {M : Nat → Int → Int} {g : Nat → Int → Option Nat} {Q : j_O → j_S → Prop} {a0 : Nat} {x1 x2 x3 x4 x5 x6 : Int} {u7 u8 u9 u10 u11 u12 : j_V} (r1 : -2147483648 ≤ x6 ∧ x6 ≤ 2147483647 := by omega) (r2 : -2147483648 ≤ x4 ∧ x4 ≤ 2147483647 := by omega) (k1 : x4 ≤ x6 → j_J G jm_Mo_standOut d B S 61 [jr_ a0, ji_ x1, ji_ x2, ji_ x3, ji_ x4, ji_ x5, ji_ x6, ji_ x2, ji_ x4, u9, u10, u11, u12] [] (N, K, M, g) Q) (k2 : x6 < x4 → j_J G jm_Mo_standOut d B S 19 [jr_ a0, ji_ x1, ji_ x2, ji_ x3, ji_ x4, ji_ x5, ji_ x6, u7, u8, u9, u10, u11, u12] [] (N, K, M, g) Q) : j_J G jm_Mo_standOut d B S 12 [jr_ a0, ji_ x1, ji_ x2, ji_ x3, ji_ x4, ji_ x5, ji_ x6, u7, u8, u9, u10, u11, u12] [] (N, K, M, g) Q :=
  j_iload d_Mo_standOut_12 rfl <| j_iload d_Mo_standOut_14 rfl <| j_icmp_ge d_Mo_standOut_16 r1 r2 (fun h => j_iload_n d_Mo_standOut_54 rfl <| j_istore d_Mo_standOut_55 rfl rfl <| j_iload d_Mo_standOut_57 rfl <| j_istore d_Mo_standOut_59 rfl rfl <| k1 h) k2
theorem s_Mo_standOut_19 {G : j_G} {d B S N : Nat} {K : Nat → Option (Nat × Nat)} {M : Nat → Int → Int} {g : Nat → Int → Option Nat} {Q : j_O → j_S → Prop} {a0 y1 n2 y4 n3 : Nat} {x1 x2 x3 x4 x5 x6 : Int} {u7 u8 u9 u10 u11 u12 : j_V} (hk1 : K a0 = some (0, 8)) (hg2 : g a0 4 = some y1) (hk2 : K y1 = some (1, n2)) (r3 : 0 ≤ x5 := by omega) (r3' : x5 < (n2 : Int) := by omega) (hg5 : g a0 5 = some y4) (hk3 : K y4 = some (1, n3)) (r6 : 0 ≤ x6 := by omega) (r6' : x6 < (n3 : Int) := by omega) (r7 : -2147483648 ≤ (M y1 x5) ∧ (M y1 x5) ≤ 2147483647 := by omega) (r8 : -2147483648 ≤ (M y4 x6) ∧ (M y4 x6) ≤ 2147483647 := by omega) (k1 : (M y1 x5) ≠ (M y4 x6) → j_J G jm_Mo_standOut d B S 61 [jr_ a0, ji_ x1, ji_ x2, ji_ x3, ji_ x4, ji_ x5, ji_ x6, ji_ x2, ji_ x4, u9, u10, u11, u12] [] (N, K, M, g) Q) (k2 : (M y1 x5) = (M y4 x6) → j_J G jm_Mo_standOut d B S 36 [jr_ a0, ji_ x1, ji_ x2, ji_ x3, ji_ x4, ji_ x5, ji_ x6, u7, u8, u9, u10, u11, u12] [] (N, K, M, g) Q) : j_J G jm_Mo_standOut d B S 19 [jr_ a0, ji_ x1, ji_ x2, ji_ x3, ji_ x4, ji_ x5, ji_ x6, u7, u8, u9, u10, u11, u12] [] (N, K, M, g) Q :=
  j_aload_n d_Mo_standOut_19 rfl <| j_getR d_Mo_standOut_20 f_Mo_16 hk1 hg2 <| j_iload d_Mo_standOut_23 rfl <| j_iald d_Mo_standOut_25 hk2 r3 r3' <| j_aload_n d_Mo_standOut_26 rfl <| j_getR d_Mo_standOut_27 f_Mo_19 hk1 hg5 <| j_iload d_Mo_standOut_30 rfl <| j_iald d_Mo_standOut_32 hk3 r6 r6' <| j_icmp_ne d_Mo_standOut_33 r7 r8 (fun h => j_iload_n d_Mo_standOut_54 rfl <| j_istore d_Mo_standOut_55 rfl rfl <| j_iload d_Mo_standOut_57 rfl <| j_istore d_Mo_standOut_59 rfl rfl <| k1 h) k2
theorem s_Mo_standOut_36 {G : j_G} {d B S N : Nat} {K : Nat → Option (Nat × Nat)} {M : Nat → Int → Int} {g : Nat → Int → Option Nat} {Q : j_O → j_S → Prop} {a0 y1 n2 : Nat} {x1 x2 x3 x4 x5 x6 : Int} {u7 u8 u9 u10 u11 u12 : j_V} (hk1 : K a0 = some (0, 8)) (hg2 : g a0 6 = some y1) (hk2 : K y1 = some (1, n2)) (r3 : 0 ≤ x5 := by omega) (r3' : x5 < (n2 : Int) := by omega) (k1 : j_J G jm_Mo_standOut d B S 6 [jr_ a0, ji_ x1, ji_ x2, ji_ x3, ji_ x4, ji_ (x5 + 1), ji_ (x6 + 1), u7, u8, u9, u10, u11, u12] [] (N, K, (j_up M y1 x5 x6), g) Q) : j_J G jm_Mo_standOut d B S 36 [jr_ a0, ji_ x1, ji_ x2, ji_ x3, ji_ x4, ji_ x5, ji_ x6, u7, u8, u9, u10, u11, u12] [] (N, K, M, g) Q :=
  j_aload_n d_Mo_standOut_36 rfl <| j_getR d_Mo_standOut_37 f_Mo_22 hk1 hg2 <| j_iload d_Mo_standOut_40 rfl <| j_iload d_Mo_standOut_42 rfl <| j_iast d_Mo_standOut_44 hk2 r3 r3' <| j_iinc d_Mo_standOut_45 rfl rfl rfl <| j_iinc d_Mo_standOut_48 rfl rfl rfl <| j_goto d_Mo_standOut_51 k1
theorem s_Mo_standOut_54 {G : j_G} {d B S N : Nat} {K : Nat → Option (Nat × Nat)} {M : Nat → Int → Int} {g : Nat → Int → Option Nat} {Q : j_O → j_S → Prop} {a0 : Nat} {x1 x2 x3 x4 x5 x6 : Int} {u7 u8 u9 u10 u11 u12 : j_V}  (k1 : j_J G jm_Mo_standOut d B S 61 [jr_ a0, ji_ x1, ji_ x2, ji_ x3, ji_ x4, ji_ x5, ji_ x6, ji_ x2, ji_ x4, u9, u10, u11, u12] [] (N, K, M, g) Q) : j_J G jm_Mo_standOut d B S 54 [jr_ a0, ji_ x1, ji_ x2, ji_ x3, ji_ x4, ji_ x5, ji_ x6, u7, u8, u9, u10, u11, u12] [] (N, K, M, g) Q :=
  j_iload_n d_Mo_standOut_54 rfl <| j_istore d_Mo_standOut_55 rfl rfl <| j_iload d_Mo_standOut_57 rfl <| j_istore d_Mo_standOut_59 rfl rfl <| k1
theorem s_Mo_standOut_61 {G : j_G} {d B S N : Nat} {K : Nat → Option (Nat × Nat)} {M : Nat → Int → Int} {g : Nat → Int → Option Nat} {Q : j_O → j_S → Prop} {a0 : Nat} {x1 x2 x3 x4 x5 x6 x7 x8 : Int} {u9 u10 u11 u12 : j_V} (r1 : -2147483648 ≤ x7 ∧ x7 ≤ 2147483647 := by omega) (r2 : -2147483648 ≤ x5 ∧ x5 ≤ 2147483647 := by omega) (k1 : x7 ≤ x5 → j_J G jm_Mo_standOut d B S 114 [jr_ a0, ji_ x1, ji_ x2, ji_ x3, ji_ x4, ji_ x5, ji_ x6, ji_ x7, ji_ x8, u9, u10, u11, u12] [] (N, K, M, g) Q) (k2 : x5 < x7 → j_J G jm_Mo_standOut d B S 68 [jr_ a0, ji_ x1, ji_ x2, ji_ x3, ji_ x4, ji_ x5, ji_ x6, ji_ x7, ji_ x8, u9, u10, u11, u12] [] (N, K, M, g) Q) : j_J G jm_Mo_standOut d B S 61 [jr_ a0, ji_ x1, ji_ x2, ji_ x3, ji_ x4, ji_ x5, ji_ x6, ji_ x7, ji_ x8, u9, u10, u11, u12] [] (N, K, M, g) Q :=
  j_iload d_Mo_standOut_61 rfl <| j_iload d_Mo_standOut_63 rfl <| j_icmp_le d_Mo_standOut_65 r1 r2 k1 k2
theorem s_Mo_standOut_68 {G : j_G} {d B S N : Nat} {K : Nat → Option (Nat × Nat)} {M : Nat → Int → Int} {g : Nat → Int → Option Nat} {Q : j_O → j_S → Prop} {a0 : Nat} {x1 x2 x3 x4 x5 x6 x7 x8 : Int} {u9 u10 u11 u12 : j_V} (r1 : -2147483648 ≤ x8 ∧ x8 ≤ 2147483647 := by omega) (r2 : -2147483648 ≤ x6 ∧ x6 ≤ 2147483647 := by omega) (k1 : x8 ≤ x6 → j_J G jm_Mo_standOut d B S 114 [jr_ a0, ji_ x1, ji_ x2, ji_ x3, ji_ x4, ji_ x5, ji_ x6, ji_ x7, ji_ x8, u9, u10, u11, u12] [] (N, K, M, g) Q) (k2 : x6 < x8 → j_J G jm_Mo_standOut d B S 75 [jr_ a0, ji_ x1, ji_ x2, ji_ x3, ji_ x4, ji_ x5, ji_ x6, ji_ x7, ji_ x8, u9, u10, u11, u12] [] (N, K, M, g) Q) : j_J G jm_Mo_standOut d B S 68 [jr_ a0, ji_ x1, ji_ x2, ji_ x3, ji_ x4, ji_ x5, ji_ x6, ji_ x7, ji_ x8, u9, u10, u11, u12] [] (N, K, M, g) Q :=
  j_iload d_Mo_standOut_68 rfl <| j_iload d_Mo_standOut_70 rfl <| j_icmp_le d_Mo_standOut_72 r1 r2 k1 k2
theorem s_Mo_standOut_75 {G : j_G} {d B S N : Nat} {K : Nat → Option (Nat × Nat)} {M : Nat → Int → Int} {g : Nat → Int → Option Nat} {Q : j_O → j_S → Prop} {a0 y1 n2 y4 n3 : Nat} {x1 x2 x3 x4 x5 x6 x7 x8 : Int} {u9 u10 u11 u12 : j_V} (hk1 : K a0 = some (0, 8)) (hg2 : g a0 4 = some y1) (hk2 : K y1 = some (1, n2)) (r3 : 0 ≤ (x7 - 1) := by omega) (r3' : (x7 - 1) < (n2 : Int) := by omega) (hg5 : g a0 5 = some y4) (hk3 : K y4 = some (1, n3)) (r6 : 0 ≤ (x8 - 1) := by omega) (r6' : (x8 - 1) < (n3 : Int) := by omega) (r7 : -2147483648 ≤ (M y1 (x7 - 1)) ∧ (M y1 (x7 - 1)) ≤ 2147483647 := by omega) (r8 : -2147483648 ≤ (M y4 (x8 - 1)) ∧ (M y4 (x8 - 1)) ≤ 2147483647 := by omega) (k1 : (M y1 (x7 - 1)) ≠ (M y4 (x8 - 1)) → j_J G jm_Mo_standOut d B S 114 [jr_ a0, ji_ x1, ji_ x2, ji_ x3, ji_ x4, ji_ x5, ji_ x6, ji_ x7, ji_ x8, u9, u10, u11, u12] [] (N, K, M, g) Q) (k2 : (M y1 (x7 - 1)) = (M y4 (x8 - 1)) → j_J G jm_Mo_standOut d B S 96 [jr_ a0, ji_ x1, ji_ x2, ji_ x3, ji_ x4, ji_ x5, ji_ x6, ji_ x7, ji_ x8, u9, u10, u11, u12] [] (N, K, M, g) Q) : j_J G jm_Mo_standOut d B S 75 [jr_ a0, ji_ x1, ji_ x2, ji_ x3, ji_ x4, ji_ x5, ji_ x6, ji_ x7, ji_ x8, u9, u10, u11, u12] [] (N, K, M, g) Q :=
  j_aload_n d_Mo_standOut_75 rfl <| j_getR d_Mo_standOut_76 f_Mo_16 hk1 hg2 <| j_iload d_Mo_standOut_79 rfl <| j_iconst d_Mo_standOut_81 <| j_isub d_Mo_standOut_82 <| j_iald d_Mo_standOut_83 hk2 r3 r3' <| j_aload_n d_Mo_standOut_84 rfl <| j_getR d_Mo_standOut_85 f_Mo_19 hk1 hg5 <| j_iload d_Mo_standOut_88 rfl <| j_iconst d_Mo_standOut_90 <| j_isub d_Mo_standOut_91 <| j_iald d_Mo_standOut_92 hk3 r6 r6' <| j_icmp_ne d_Mo_standOut_93 r7 r8 k1 k2
theorem s_Mo_standOut_96 {G : j_G} {d B S N : Nat} {K : Nat → Option (Nat × Nat)} {M : Nat → Int → Int} {g : Nat → Int → Option Nat} {Q : j_O → j_S → Prop} {a0 y1 n2 : Nat} {x1 x2 x3 x4 x5 x6 x7 x8 : Int} {u9 u10 u11 u12 : j_V} (hk1 : K a0 = some (0, 8)) (hg2 : g a0 6 = some y1) (hk2 : K y1 = some (1, n2)) (r3 : 0 ≤ (x7 + (-1)) := by omega) (r3' : (x7 + (-1)) < (n2 : Int) := by omega) (k1 : j_J G jm_Mo_standOut d B S 61 [jr_ a0, ji_ x1, ji_ x2, ji_ x3, ji_ x4, ji_ x5, ji_ x6, ji_ (x7 + (-1)), ji_ (x8 + (-1)), u9, u10, u11, u12] [] (N, K, (j_up M y1 (x7 + (-1)) (x8 + (-1))), g) Q) : j_J G jm_Mo_standOut d B S 96 [jr_ a0, ji_ x1, ji_ x2, ji_ x3, ji_ x4, ji_ x5, ji_ x6, ji_ x7, ji_ x8, u9, u10, u11, u12] [] (N, K, M, g) Q :=
  j_iinc d_Mo_standOut_96 rfl rfl rfl <| j_iinc d_Mo_standOut_99 rfl rfl rfl <| j_aload_n d_Mo_standOut_102 rfl <| j_getR d_Mo_standOut_103 f_Mo_22 hk1 hg2 <| j_iload d_Mo_standOut_106 rfl <| j_iload d_Mo_standOut_108 rfl <| j_iast d_Mo_standOut_110 hk2 r3 r3' <| j_goto d_Mo_standOut_111 k1
theorem s_Mo_standOut_114 {G : j_G} {d B S N : Nat} {K : Nat → Option (Nat × Nat)} {M : Nat → Int → Int} {g : Nat → Int → Option Nat} {Q : j_O → j_S → Prop} {a0 : Nat} {x1 x2 x3 x4 x5 x6 x7 x8 : Int} {u9 u10 u11 u12 : j_V} {q : Int → (Nat → Int → Int) → Prop} (hk1 : K a0 = some (0, 8)) (hC : j_Ct G jm_Mo_findRanks d 0 0 [jr_ a0, ji_ x5, ji_ x7, ji_ x6, ji_ x8] (N, K, M, g) (j_pI N K g q)) (k1 : ∀ z M', q z M' → j_J G jm_Mo_standOut (d + 1) B S 126 [jr_ a0, ji_ x1, ji_ x2, ji_ x3, ji_ x4, ji_ x5, ji_ x6, ji_ x7, ji_ x8, u9, u10, u11, u12] [ji_ z] (N, K, M', g) Q) : j_J G jm_Mo_standOut (d + 1) B S 114 [jr_ a0, ji_ x1, ji_ x2, ji_ x3, ji_ x4, ji_ x5, ji_ x6, ji_ x7, ji_ x8, u9, u10, u11, u12] [] (N, K, M, g) Q :=
  j_aload_n d_Mo_standOut_114 rfl <| j_iload d_Mo_standOut_115 rfl <| j_iload d_Mo_standOut_117 rfl <| j_iload d_Mo_standOut_119 rfl <| j_iload d_Mo_standOut_121 rfl <| j_aVI (as := [ji_ x5, ji_ x7, ji_ x6, ji_ x8]) (rest := []) d_Mo_standOut_123 c_Mo_110 hk1 rfl (Nat.le_of_ble_eq_true rfl) hC k1
theorem s_Mo_standOut_126 {G : j_G} {d B S N : Nat} {K : Nat → Option (Nat × Nat)} {M : Nat → Int → Int} {g : Nat → Int → Option Nat} {Q : j_O → j_S → Prop} {a0 : Nat} {x1 x2 x3 x4 x5 x6 x7 x8 t0 : Int} {u9 u10 u11 u12 : j_V} (r1 : -2147483648 ≤ t0 ∧ t0 ≤ 2147483647 := by omega) (k1 : t0 ≠ 0 → j_J G jm_Mo_standOut d B S 160 [jr_ a0, ji_ x1, ji_ x2, ji_ x3, ji_ x4, ji_ x5, ji_ x6, ji_ x7, ji_ x8, ji_ t0, ji_ x7, ji_ x8, ji_ (x7 - 1)] [] (N, K, M, g) Q) (k2 : t0 = 0 → j_J G jm_Mo_standOut d B S 133 [jr_ a0, ji_ x1, ji_ x2, ji_ x3, ji_ x4, ji_ x5, ji_ x6, ji_ x7, ji_ x8, ji_ t0, u10, u11, u12] [] (N, K, M, g) Q) : j_J G jm_Mo_standOut d B S 126 [jr_ a0, ji_ x1, ji_ x2, ji_ x3, ji_ x4, ji_ x5, ji_ x6, ji_ x7, ji_ x8, u9, u10, u11, u12] [ji_ t0] (N, K, M, g) Q :=
  j_istore d_Mo_standOut_126 rfl rfl <| j_iload d_Mo_standOut_128 rfl <| j_if_ne d_Mo_standOut_130 r1 (fun h => j_iload d_Mo_standOut_146 rfl <| j_istore d_Mo_standOut_148 rfl rfl <| j_iload d_Mo_standOut_150 rfl <| j_istore d_Mo_standOut_152 rfl rfl <| j_iload d_Mo_standOut_154 rfl <| j_iconst d_Mo_standOut_156 <| j_isub d_Mo_standOut_157 <| j_istore d_Mo_standOut_158 rfl rfl <| k1 h) k2
theorem s_Mo_standOut_133 {G : j_G} {d B S N : Nat} {K : Nat → Option (Nat × Nat)} {M : Nat → Int → Int} {g : Nat → Int → Option Nat} {Q : j_O → j_S → Prop} {a0 : Nat} {x1 x2 x3 x4 x5 x6 x7 x8 x9 : Int} {u10 u11 u12 : j_V} {q : (Nat → Int → Int) → Prop} (hk1 : K a0 = some (0, 8)) (hC : j_Ct G jm_Mo_compareShort d 0 0 [jr_ a0, ji_ x5, ji_ x7, ji_ x6, ji_ x8] (N, K, M, g) (j_pV N K g q)) (k1 : ∀ M', q M' → j_J G jm_Mo_standOut (d + 1) B S 145 [jr_ a0, ji_ x1, ji_ x2, ji_ x3, ji_ x4, ji_ x5, ji_ x6, ji_ x7, ji_ x8, ji_ x9, u10, u11, u12] [] (N, K, M', g) Q) : j_J G jm_Mo_standOut (d + 1) B S 133 [jr_ a0, ji_ x1, ji_ x2, ji_ x3, ji_ x4, ji_ x5, ji_ x6, ji_ x7, ji_ x8, ji_ x9, u10, u11, u12] [] (N, K, M, g) Q :=
  j_aload_n d_Mo_standOut_133 rfl <| j_iload d_Mo_standOut_134 rfl <| j_iload d_Mo_standOut_136 rfl <| j_iload d_Mo_standOut_138 rfl <| j_iload d_Mo_standOut_140 rfl <| j_aVV (as := [ji_ x5, ji_ x7, ji_ x6, ji_ x8]) (rest := []) d_Mo_standOut_142 c_Mo_114 hk1 rfl (Nat.le_of_ble_eq_true rfl) hC k1
theorem s_Mo_standOut_145 {G : j_G} {d B S N : Nat} {K : Nat → Option (Nat × Nat)} {M : Nat → Int → Int} {g : Nat → Int → Option Nat} {Q : j_O → j_S → Prop} {a0 : Nat} {x1 x2 x3 x4 x5 x6 x7 x8 x9 : Int} {u10 u11 u12 : j_V}  (k1 : Q (.inl none) (N, K, M, g)) : j_J G jm_Mo_standOut d B S 145 [jr_ a0, ji_ x1, ji_ x2, ji_ x3, ji_ x4, ji_ x5, ji_ x6, ji_ x7, ji_ x8, ji_ x9, u10, u11, u12] [] (N, K, M, g) Q :=
  j_vreturn d_Mo_standOut_145 rfl k1
theorem s_Mo_standOut_146 {G : j_G} {d B S N : Nat} {K : Nat → Option (Nat × Nat)} {M : Nat → Int → Int} {g : Nat → Int → Option Nat} {Q : j_O → j_S → Prop} {a0 : Nat} {x1 x2 x3 x4 x5 x6 x7 x8 x9 : Int} {u10 u11 u12 : j_V}  (k1 : j_J G jm_Mo_standOut d B S 160 [jr_ a0, ji_ x1, ji_ x2, ji_ x3, ji_ x4, ji_ x5, ji_ x6, ji_ x7, ji_ x8, ji_ x9, ji_ x7, ji_ x8, ji_ (x7 - 1)] [] (N, K, M, g) Q) : j_J G jm_Mo_standOut d B S 146 [jr_ a0, ji_ x1, ji_ x2, ji_ x3, ji_ x4, ji_ x5, ji_ x6, ji_ x7, ji_ x8, ji_ x9, u10, u11, u12] [] (N, K, M, g) Q :=
  j_iload d_Mo_standOut_146 rfl <| j_istore d_Mo_standOut_148 rfl rfl <| j_iload d_Mo_standOut_150 rfl <| j_istore d_Mo_standOut_152 rfl rfl <| j_iload d_Mo_standOut_154 rfl <| j_iconst d_Mo_standOut_156 <| j_isub d_Mo_standOut_157 <| j_istore d_Mo_standOut_158 rfl rfl <| k1
theorem s_Mo_standOut_160 {G : j_G} {d B S N : Nat} {K : Nat → Option (Nat × Nat)} {M : Nat → Int → Int} {g : Nat → Int → Option Nat} {Q : j_O → j_S → Prop} {a0 : Nat} {x1 x2 x3 x4 x5 x6 x7 x8 x9 x10 x11 x12 : Int} (r1 : -2147483648 ≤ x12 ∧ x12 ≤ 2147483647 := by omega) (r2 : -2147483648 ≤ x5 ∧ x5 ≤ 2147483647 := by omega) (k1 : x12 < x5 → j_J G jm_Mo_standOut d B S 241 [jr_ a0, ji_ x1, ji_ x2, ji_ x3, ji_ x4, ji_ x5, ji_ x6, ji_ x7, ji_ x8, ji_ x9, ji_ x10, ji_ x11, ji_ x12] [] (N, K, M, g) Q) (k2 : x5 ≤ x12 → j_J G jm_Mo_standOut d B S 167 [jr_ a0, ji_ x1, ji_ x2, ji_ x3, ji_ x4, ji_ x5, ji_ x6, ji_ x7, ji_ x8, ji_ x9, ji_ x10, ji_ x11, ji_ x12] [] (N, K, M, g) Q) : j_J G jm_Mo_standOut d B S 160 [jr_ a0, ji_ x1, ji_ x2, ji_ x3, ji_ x4, ji_ x5, ji_ x6, ji_ x7, ji_ x8, ji_ x9, ji_ x10, ji_ x11, ji_ x12] [] (N, K, M, g) Q :=
  j_iload d_Mo_standOut_160 rfl <| j_iload d_Mo_standOut_162 rfl <| j_icmp_lt d_Mo_standOut_164 r1 r2 k1 k2
theorem s_Mo_standOut_167 {G : j_G} {d B S N : Nat} {K : Nat → Option (Nat × Nat)} {M : Nat → Int → Int} {g : Nat → Int → Option Nat} {Q : j_O → j_S → Prop} {a0 y1 n2 : Nat} {x1 x2 x3 x4 x5 x6 x7 x8 x9 x10 x11 x12 : Int} (hk1 : K a0 = some (0, 8)) (hg2 : g a0 14 = some y1) (hk2 : K y1 = some (1, n2)) (r3 : 0 ≤ x12 := by omega) (r3' : x12 < (n2 : Int) := by omega) (r4 : -2147483648 ≤ (M y1 x12) ∧ (M y1 x12) ≤ 2147483647 := by omega) (r5 : -2147483648 ≤ x9 ∧ x9 ≤ 2147483647 := by omega) (k1 : (M y1 x12) ≠ x9 → j_J G jm_Mo_standOut d B S 160 [jr_ a0, ji_ x1, ji_ x2, ji_ x3, ji_ x4, ji_ x5, ji_ x6, ji_ x7, ji_ x8, ji_ x9, ji_ x10, ji_ x11, ji_ (x12 + (-1))] [] (N, K, M, g) Q) (k2 : (M y1 x12) = x9 → j_J G jm_Mo_standOut d B S 179 [jr_ a0, ji_ x1, ji_ x2, ji_ x3, ji_ x4, ji_ x5, ji_ x6, ji_ x7, ji_ x8, ji_ x9, ji_ x10, ji_ x11, ji_ x12] [] (N, K, M, g) Q) : j_J G jm_Mo_standOut d B S 167 [jr_ a0, ji_ x1, ji_ x2, ji_ x3, ji_ x4, ji_ x5, ji_ x6, ji_ x7, ji_ x8, ji_ x9, ji_ x10, ji_ x11, ji_ x12] [] (N, K, M, g) Q :=
  j_aload_n d_Mo_standOut_167 rfl <| j_getR d_Mo_standOut_168 f_Mo_43 hk1 hg2 <| j_iload d_Mo_standOut_171 rfl <| j_iald d_Mo_standOut_173 hk2 r3 r3' <| j_iload d_Mo_standOut_174 rfl <| j_icmp_ne d_Mo_standOut_176 r4 r5 (fun h => j_iinc d_Mo_standOut_235 rfl rfl rfl <| j_goto d_Mo_standOut_238 <| k1 h) k2
theorem s_Mo_standOut_179 {G : j_G} {d B S N : Nat} {K : Nat → Option (Nat × Nat)} {M : Nat → Int → Int} {g : Nat → Int → Option Nat} {Q : j_O → j_S → Prop} {a0 : Nat} {x1 x2 x3 x4 x5 x6 x7 x8 x9 x10 x11 x12 : Int} (r1 : -2147483648 ≤ x9 ∧ x9 ≤ 2147483647 := by omega) (k1 : x9 ≤ 0 → j_J G jm_Mo_standOut d B S 160 [jr_ a0, ji_ x1, ji_ x2, ji_ x3, ji_ x4, ji_ x5, ji_ x6, ji_ x7, ji_ x8, ji_ x9, ji_ x10, ji_ x11, ji_ (x12 + (-1))] [] (N, K, M, g) Q) (k2 : 0 < x9 → j_J G jm_Mo_standOut d B S 184 [jr_ a0, ji_ x1, ji_ x2, ji_ x3, ji_ x4, ji_ x5, ji_ x6, ji_ x7, ji_ x8, ji_ x9, ji_ x10, ji_ x11, ji_ x12] [] (N, K, M, g) Q) : j_J G jm_Mo_standOut d B S 179 [jr_ a0, ji_ x1, ji_ x2, ji_ x3, ji_ x4, ji_ x5, ji_ x6, ji_ x7, ji_ x8, ji_ x9, ji_ x10, ji_ x11, ji_ x12] [] (N, K, M, g) Q :=
  j_iload d_Mo_standOut_179 rfl <| j_if_le d_Mo_standOut_181 r1 (fun h => j_iinc d_Mo_standOut_235 rfl rfl rfl <| j_goto d_Mo_standOut_238 <| k1 h) k2
theorem s_Mo_standOut_184 {G : j_G} {d B S N : Nat} {K : Nat → Option (Nat × Nat)} {M : Nat → Int → Int} {g : Nat → Int → Option Nat} {Q : j_O → j_S → Prop} {a0 y1 y3 n2 n3 : Nat} {x1 x2 x3 x4 x5 x6 x7 x8 x9 x10 x11 x12 : Int} {q : (Nat → Int → Int) → Prop} (hk1 : K a0 = some (0, 8)) (hg2 : g a0 6 = some y1) (hg4 : g a0 13 = some y3) (hk2 : K y3 = some (1, n2)) (r5 : 0 ≤ x12 := by omega) (r5' : x12 < (n2 : Int) := by omega) (hk3 : K y1 = some (1, n3)) (r6 : 0 ≤ x12 := by omega) (r6' : x12 < (n3 : Int) := by omega) (r7 : 0 ≤ x12 := by omega) (r7' : x12 < (n2 : Int) := by omega) (hC : j_Ct G jm_Mo_await d 0 0 [jr_ a0, ji_ (x12 + 1), ji_ x10, ji_ (((j_up M y1 x12 (M y3 x12)) y3 x12) + 1), ji_ x11] (N, K, (j_up M y1 x12 (M y3 x12)), g) (j_pV N K g q)) (k1 : ∀ M', q M' → j_J G jm_Mo_standOut (d + 1) B S 219 [jr_ a0, ji_ x1, ji_ x2, ji_ x3, ji_ x4, ji_ x5, ji_ x6, ji_ x7, ji_ x8, ji_ x9, ji_ x10, ji_ x11, ji_ x12] [] (N, K, M', g) Q) : j_J G jm_Mo_standOut (d + 1) B S 184 [jr_ a0, ji_ x1, ji_ x2, ji_ x3, ji_ x4, ji_ x5, ji_ x6, ji_ x7, ji_ x8, ji_ x9, ji_ x10, ji_ x11, ji_ x12] [] (N, K, M, g) Q :=
  j_aload_n d_Mo_standOut_184 rfl <| j_getR d_Mo_standOut_185 f_Mo_22 hk1 hg2 <| j_iload d_Mo_standOut_188 rfl <| j_aload_n d_Mo_standOut_190 rfl <| j_getR d_Mo_standOut_191 f_Mo_40 hk1 hg4 <| j_iload d_Mo_standOut_194 rfl <| j_iald d_Mo_standOut_196 hk2 r5 r5' <| j_iast d_Mo_standOut_197 hk3 r6 r6' <| j_aload_n d_Mo_standOut_198 rfl <| j_iload d_Mo_standOut_199 rfl <| j_iconst d_Mo_standOut_201 <| j_iadd d_Mo_standOut_202 <| j_iload d_Mo_standOut_203 rfl <| j_aload_n d_Mo_standOut_205 rfl <| j_getR d_Mo_standOut_206 f_Mo_40 hk1 hg4 <| j_iload d_Mo_standOut_209 rfl <| j_iald d_Mo_standOut_211 hk2 r7 r7' <| j_iconst d_Mo_standOut_212 <| j_iadd d_Mo_standOut_213 <| j_iload d_Mo_standOut_214 rfl <| j_aVV (as := [ji_ (x12 + 1), ji_ x10, ji_ (((j_up M y1 x12 (M y3 x12)) y3 x12) + 1), ji_ x11]) (rest := []) d_Mo_standOut_216 c_Mo_118 hk1 rfl (Nat.le_of_ble_eq_true rfl) hC k1
theorem s_Mo_standOut_219 {G : j_G} {d B S N : Nat} {K : Nat → Option (Nat × Nat)} {M : Nat → Int → Int} {g : Nat → Int → Option Nat} {Q : j_O → j_S → Prop} {a0 y1 n2 : Nat} {x1 x2 x3 x4 x5 x6 x7 x8 x9 x10 x11 x12 : Int} (hk1 : K a0 = some (0, 8)) (hg2 : g a0 13 = some y1) (hk2 : K y1 = some (1, n2)) (r3 : 0 ≤ x12 := by omega) (r3' : x12 < (n2 : Int) := by omega) (k1 : j_J G jm_Mo_standOut d B S 160 [jr_ a0, ji_ x1, ji_ x2, ji_ x3, ji_ x4, ji_ x5, ji_ x6, ji_ x7, ji_ x8, ji_ (x9 + (-1)), ji_ x12, ji_ (M y1 x12), ji_ (x12 + (-1))] [] (N, K, M, g) Q) : j_J G jm_Mo_standOut d B S 219 [jr_ a0, ji_ x1, ji_ x2, ji_ x3, ji_ x4, ji_ x5, ji_ x6, ji_ x7, ji_ x8, ji_ x9, ji_ x10, ji_ x11, ji_ x12] [] (N, K, M, g) Q :=
  j_iload d_Mo_standOut_219 rfl <| j_istore d_Mo_standOut_221 rfl rfl <| j_aload_n d_Mo_standOut_223 rfl <| j_getR d_Mo_standOut_224 f_Mo_40 hk1 hg2 <| j_iload d_Mo_standOut_227 rfl <| j_iald d_Mo_standOut_229 hk2 r3 r3' <| j_istore d_Mo_standOut_230 rfl rfl <| j_iinc d_Mo_standOut_232 rfl rfl rfl <| (j_iinc d_Mo_standOut_235 rfl rfl rfl <| j_goto d_Mo_standOut_238 <| k1)
theorem s_Mo_standOut_235 {G : j_G} {d B S N : Nat} {K : Nat → Option (Nat × Nat)} {M : Nat → Int → Int} {g : Nat → Int → Option Nat} {Q : j_O → j_S → Prop} {a0 : Nat} {x1 x2 x3 x4 x5 x6 x7 x8 x9 x10 x11 x12 : Int}  (k1 : j_J G jm_Mo_standOut d B S 160 [jr_ a0, ji_ x1, ji_ x2, ji_ x3, ji_ x4, ji_ x5, ji_ x6, ji_ x7, ji_ x8, ji_ x9, ji_ x10, ji_ x11, ji_ (x12 + (-1))] [] (N, K, M, g) Q) : j_J G jm_Mo_standOut d B S 235 [jr_ a0, ji_ x1, ji_ x2, ji_ x3, ji_ x4, ji_ x5, ji_ x6, ji_ x7, ji_ x8, ji_ x9, ji_ x10, ji_ x11, ji_ x12] [] (N, K, M, g) Q :=
  j_iinc d_Mo_standOut_235 rfl rfl rfl <| j_goto d_Mo_standOut_238 k1
theorem s_Mo_standOut_241 {G : j_G} {d B S N : Nat} {K : Nat → Option (Nat × Nat)} {M : Nat → Int → Int} {g : Nat → Int → Option Nat} {Q : j_O → j_S → Prop} {a0 : Nat} {x1 x2 x3 x4 x5 x6 x7 x8 x9 x10 x11 x12 : Int} {q : (Nat → Int → Int) → Prop} (hk1 : K a0 = some (0, 8)) (hC : j_Ct G jm_Mo_await d 0 0 [jr_ a0, ji_ x5, ji_ x10, ji_ x6, ji_ x11] (N, K, M, g) (j_pV N K g q)) (k1 : ∀ M', q M' → j_J G jm_Mo_standOut (d + 1) B S 253 [jr_ a0, ji_ x1, ji_ x2, ji_ x3, ji_ x4, ji_ x5, ji_ x6, ji_ x7, ji_ x8, ji_ x9, ji_ x10, ji_ x11, ji_ x12] [] (N, K, M', g) Q) : j_J G jm_Mo_standOut (d + 1) B S 241 [jr_ a0, ji_ x1, ji_ x2, ji_ x3, ji_ x4, ji_ x5, ji_ x6, ji_ x7, ji_ x8, ji_ x9, ji_ x10, ji_ x11, ji_ x12] [] (N, K, M, g) Q :=
  j_aload_n d_Mo_standOut_241 rfl <| j_iload d_Mo_standOut_242 rfl <| j_iload d_Mo_standOut_244 rfl <| j_iload d_Mo_standOut_246 rfl <| j_iload d_Mo_standOut_248 rfl <| j_aVV (as := [ji_ x5, ji_ x10, ji_ x6, ji_ x11]) (rest := []) d_Mo_standOut_250 c_Mo_118 hk1 rfl (Nat.le_of_ble_eq_true rfl) hC k1
theorem s_Mo_standOut_253 {G : j_G} {d B S N : Nat} {K : Nat → Option (Nat × Nat)} {M : Nat → Int → Int} {g : Nat → Int → Option Nat} {Q : j_O → j_S → Prop} {a0 : Nat} {x1 x2 x3 x4 x5 x6 x7 x8 x9 x10 x11 x12 : Int}  (k1 : Q (.inl none) (N, K, M, g)) : j_J G jm_Mo_standOut d B S 253 [jr_ a0, ji_ x1, ji_ x2, ji_ x3, ji_ x4, ji_ x5, ji_ x6, ji_ x7, ji_ x8, ji_ x9, ji_ x10, ji_ x11, ji_ x12] [] (N, K, M, g) Q :=
  j_vreturn d_Mo_standOut_253 rfl k1
theorem s_Mo_compareAll_0 {G : j_G} {d B S N : Nat} {K : Nat → Option (Nat × Nat)} {M : Nat → Int → Int} {g : Nat → Int → Option Nat} {Q : j_O → j_S → Prop} {a0 : Nat} {x1 : Int} (r1 : -2147483648 ≤ x1 ∧ x1 ≤ 2147483647 := by omega) (k1 : x1 ≠ 0 → j_J G jm_Mo_compareAll d B S 19 [jr_ a0, ji_ x1] [] (N, K, M, g) Q) (k2 : x1 = 0 → j_J G jm_Mo_compareAll d B S 4 [jr_ a0, ji_ x1] [] (N, K, M, g) Q) : j_J G jm_Mo_compareAll d B S 0 [jr_ a0, ji_ x1] [] (N, K, M, g) Q :=
  j_iload_n d_Mo_compareAll_0 rfl <| j_if_ne d_Mo_compareAll_1 r1 k1 k2
theorem s_Mo_compareAll_4 {G : j_G} {d B S N : Nat} {K : Nat → Option (Nat × Nat)} {M : Nat → Int → Int} {g : Nat → Int → Option Nat} {Q : j_O → j_S → Prop} {a0 : Nat} {x1 : Int} {q : (Nat → Int → Int) → Prop} (hk1 : K a0 = some (0, 8)) (hC : j_Ct G jm_Mo_compareShort d 0 0 [jr_ a0, ji_ 0, ji_ (M a0 2), ji_ 0, ji_ (M a0 3)] (N, K, M, g) (j_pV N K g q)) (k1 : ∀ M', q M' → j_J G jm_Mo_compareAll (d + 1) B S 18 [jr_ a0, ji_ x1] [] (N, K, M', g) Q) : j_J G jm_Mo_compareAll (d + 1) B S 4 [jr_ a0, ji_ x1] [] (N, K, M, g) Q :=
  j_aload_n d_Mo_compareAll_4 rfl <| j_iconst d_Mo_compareAll_5 <| j_aload_n d_Mo_compareAll_6 rfl <| j_getI d_Mo_compareAll_7 f_Mo_96 hk1 <| j_iconst d_Mo_compareAll_10 <| j_aload_n d_Mo_compareAll_11 rfl <| j_getI d_Mo_compareAll_12 f_Mo_100 hk1 <| j_aVV (as := [ji_ 0, ji_ (M a0 2), ji_ 0, ji_ (M a0 3)]) (rest := []) d_Mo_compareAll_15 c_Mo_114 hk1 rfl (Nat.le_of_ble_eq_true rfl) hC k1
theorem s_Mo_compareAll_18 {G : j_G} {d B S N : Nat} {K : Nat → Option (Nat × Nat)} {M : Nat → Int → Int} {g : Nat → Int → Option Nat} {Q : j_O → j_S → Prop} {a0 : Nat} {x1 : Int}  (k1 : Q (.inl none) (N, K, M, g)) : j_J G jm_Mo_compareAll d B S 18 [jr_ a0, ji_ x1] [] (N, K, M, g) Q :=
  j_vreturn d_Mo_compareAll_18 rfl k1
theorem s_Mo_compareAll_19 {G : j_G} {d B S N : Nat} {K : Nat → Option (Nat × Nat)} {M : Nat → Int → Int} {g : Nat → Int → Option Nat} {Q : j_O → j_S → Prop} {a0 : Nat} {x1 : Int} {q : (Nat → Int → Int) → Prop} (hk1 : K a0 = some (0, 8)) (hC : j_Ct G jm_Mo_await d 0 0 [jr_ a0, ji_ 0, ji_ ((j_up M a0 8 0) a0 2), ji_ 0, ji_ ((j_up M a0 8 0) a0 3)] (N, K, (j_up M a0 8 0), g) (j_pV N K g q)) (k1 : ∀ M', q M' → j_J G jm_Mo_compareAll (d + 1) B S 38 [jr_ a0, ji_ x1] [] (N, K, M', g) Q) : j_J G jm_Mo_compareAll (d + 1) B S 19 [jr_ a0, ji_ x1] [] (N, K, M, g) Q :=
  j_aload_n d_Mo_compareAll_19 rfl <| j_iconst d_Mo_compareAll_20 <| j_putI d_Mo_compareAll_21 f_Mo_103 (⟨_, rfl, Or.inl rfl⟩) rfl hk1 <| j_aload_n d_Mo_compareAll_24 rfl <| j_iconst d_Mo_compareAll_25 <| j_aload_n d_Mo_compareAll_26 rfl <| j_getI d_Mo_compareAll_27 f_Mo_96 hk1 <| j_iconst d_Mo_compareAll_30 <| j_aload_n d_Mo_compareAll_31 rfl <| j_getI d_Mo_compareAll_32 f_Mo_100 hk1 <| j_aVV (as := [ji_ 0, ji_ ((j_up M a0 8 0) a0 2), ji_ 0, ji_ ((j_up M a0 8 0) a0 3)]) (rest := []) d_Mo_compareAll_35 c_Mo_118 hk1 rfl (Nat.le_of_ble_eq_true rfl) hC k1
theorem s_Mo_compareAll_38 {G : j_G} {d B S N : Nat} {K : Nat → Option (Nat × Nat)} {M : Nat → Int → Int} {g : Nat → Int → Option Nat} {Q : j_O → j_S → Prop} {a0 : Nat} {x1 : Int} (hk1 : K a0 = some (0, 8)) (r1 : -2147483648 ≤ (M a0 8) ∧ (M a0 8) ≤ 2147483647 := by omega) (k1 : (M a0 8) ≤ 0 → Q (.inl none) (N, K, M, g)) (k2 : 0 < (M a0 8) → j_J G jm_Mo_compareAll d B S 45 [jr_ a0, ji_ x1] [] (N, K, M, g) Q) : j_J G jm_Mo_compareAll d B S 38 [jr_ a0, ji_ x1] [] (N, K, M, g) Q :=
  j_aload_n d_Mo_compareAll_38 rfl <| j_getI d_Mo_compareAll_39 f_Mo_103 hk1 <| j_if_le d_Mo_compareAll_42 r1 (fun h => j_vreturn d_Mo_compareAll_98 rfl <| k1 h) k2
theorem s_Mo_compareAll_45 {G : j_G} {d B S N : Nat} {K : Nat → Option (Nat × Nat)} {M : Nat → Int → Int} {g : Nat → Int → Option Nat} {Q : j_O → j_S → Prop} {a0 y1 n2 y4 n3 y7 n4 y10 n5 : Nat} {x1 : Int} {q : (Nat → Int → Int) → Prop} (hk1 : K a0 = some (0, 8)) (hg2 : g a0 9 = some y1) (hk2 : K y1 = some (1, n2)) (r3 : 0 ≤ ((j_up M a0 8 ((M a0 8) - 1)) a0 8) := by omega) (r3' : ((j_up M a0 8 ((M a0 8) - 1)) a0 8) < (n2 : Int) := by omega) (hg5 : g a0 10 = some y4) (hk3 : K y4 = some (1, n3)) (r6 : 0 ≤ ((j_up M a0 8 ((M a0 8) - 1)) a0 8) := by omega) (r6' : ((j_up M a0 8 ((M a0 8) - 1)) a0 8) < (n3 : Int) := by omega) (hg8 : g a0 11 = some y7) (hk4 : K y7 = some (1, n4)) (r9 : 0 ≤ ((j_up M a0 8 ((M a0 8) - 1)) a0 8) := by omega) (r9' : ((j_up M a0 8 ((M a0 8) - 1)) a0 8) < (n4 : Int) := by omega) (hg11 : g a0 12 = some y10) (hk5 : K y10 = some (1, n5)) (r12 : 0 ≤ ((j_up M a0 8 ((M a0 8) - 1)) a0 8) := by omega) (r12' : ((j_up M a0 8 ((M a0 8) - 1)) a0 8) < (n5 : Int) := by omega) (hC : j_Ct G jm_Mo_standOut d 0 0 [jr_ a0, ji_ ((j_up M a0 8 ((M a0 8) - 1)) y1 ((j_up M a0 8 ((M a0 8) - 1)) a0 8)), ji_ ((j_up M a0 8 ((M a0 8) - 1)) y4 ((j_up M a0 8 ((M a0 8) - 1)) a0 8)), ji_ ((j_up M a0 8 ((M a0 8) - 1)) y7 ((j_up M a0 8 ((M a0 8) - 1)) a0 8)), ji_ ((j_up M a0 8 ((M a0 8) - 1)) y10 ((j_up M a0 8 ((M a0 8) - 1)) a0 8))] (N, K, (j_up M a0 8 ((M a0 8) - 1)), g) (j_pV N K g q)) (k1 : ∀ M', q M' → j_J G jm_Mo_compareAll (d + 1) B S 95 [jr_ a0, ji_ x1] [] (N, K, M', g) Q) : j_J G jm_Mo_compareAll (d + 1) B S 45 [jr_ a0, ji_ x1] [] (N, K, M, g) Q :=
  j_aload_n d_Mo_compareAll_45 rfl <| j_dupR d_Mo_compareAll_46 <| j_getI d_Mo_compareAll_47 f_Mo_103 hk1 <| j_iconst d_Mo_compareAll_50 <| j_isub d_Mo_compareAll_51 <| j_putI d_Mo_compareAll_52 f_Mo_103 (⟨_, rfl, Or.inl rfl⟩) rfl hk1 <| j_aload_n d_Mo_compareAll_55 rfl <| j_aload_n d_Mo_compareAll_56 rfl <| j_getR d_Mo_compareAll_57 f_Mo_28 hk1 hg2 <| j_aload_n d_Mo_compareAll_60 rfl <| j_getI d_Mo_compareAll_61 f_Mo_103 hk1 <| j_iald d_Mo_compareAll_64 hk2 r3 r3' <| j_aload_n d_Mo_compareAll_65 rfl <| j_getR d_Mo_compareAll_66 f_Mo_31 hk1 hg5 <| j_aload_n d_Mo_compareAll_69 rfl <| j_getI d_Mo_compareAll_70 f_Mo_103 hk1 <| j_iald d_Mo_compareAll_73 hk3 r6 r6' <| j_aload_n d_Mo_compareAll_74 rfl <| j_getR d_Mo_compareAll_75 f_Mo_34 hk1 hg8 <| j_aload_n d_Mo_compareAll_78 rfl <| j_getI d_Mo_compareAll_79 f_Mo_103 hk1 <| j_iald d_Mo_compareAll_82 hk4 r9 r9' <| j_aload_n d_Mo_compareAll_83 rfl <| j_getR d_Mo_compareAll_84 f_Mo_37 hk1 hg11 <| j_aload_n d_Mo_compareAll_87 rfl <| j_getI d_Mo_compareAll_88 f_Mo_103 hk1 <| j_iald d_Mo_compareAll_91 hk5 r12 r12' <| j_aVV (as := [ji_ ((j_up M a0 8 ((M a0 8) - 1)) y1 ((j_up M a0 8 ((M a0 8) - 1)) a0 8)), ji_ ((j_up M a0 8 ((M a0 8) - 1)) y4 ((j_up M a0 8 ((M a0 8) - 1)) a0 8)), ji_ ((j_up M a0 8 ((M a0 8) - 1)) y7 ((j_up M a0 8 ((M a0 8) - 1)) a0 8)), ji_ ((j_up M a0 8 ((M a0 8) - 1)) y10 ((j_up M a0 8 ((M a0 8) - 1)) a0 8))]) (rest := []) d_Mo_compareAll_92 c_Mo_121 hk1 rfl (Nat.le_of_ble_eq_true rfl) hC k1
theorem s_Mo_compareAll_95 {G : j_G} {d B S N : Nat} {K : Nat → Option (Nat × Nat)} {M : Nat → Int → Int} {g : Nat → Int → Option Nat} {Q : j_O → j_S → Prop} {a0 : Nat} {x1 : Int}  (k1 : j_J G jm_Mo_compareAll d B S 38 [jr_ a0, ji_ x1] [] (N, K, M, g) Q) : j_J G jm_Mo_compareAll d B S 95 [jr_ a0, ji_ x1] [] (N, K, M, g) Q :=
  j_goto d_Mo_compareAll_95 k1
theorem s_Mo_compareAll_98 {G : j_G} {d B S N : Nat} {K : Nat → Option (Nat × Nat)} {M : Nat → Int → Int} {g : Nat → Int → Option Nat} {Q : j_O → j_S → Prop} {a0 : Nat} {x1 : Int}  (k1 : Q (.inl none) (N, K, M, g)) : j_J G jm_Mo_compareAll d B S 98 [jr_ a0, ji_ x1] [] (N, K, M, g) Q :=
  j_vreturn d_Mo_compareAll_98 rfl k1
theorem s_Mo_compare_0 {G : j_G} {d B S N : Nat} {K : Nat → Option (Nat × Nat)} {M : Nat → Int → Int} {g : Nat → Int → Option Nat} {Q : j_O → j_S → Prop} {a0 : Nat} {x1 x2 x3 : Int} {u4 u5 : j_V} {q : Int → (Nat → Int → Int) → Prop} (hC : j_Ct G jm_Mo_within d 0 0 [ji_ x1, ji_ 0, ji_ 3] (N, K, M, g) (j_pI N K g q)) (k1 : ∀ z M', q z M' → j_J G jm_Mo_compare (d + 1) B S 6 [jr_ a0, ji_ x1, ji_ x2, ji_ x3, u4, u5] [ji_ z] (N, K, M', g) Q) : j_J G jm_Mo_compare (d + 1) B S 0 [jr_ a0, ji_ x1, ji_ x2, ji_ x3, u4, u5] [] (N, K, M, g) Q :=
  j_iload_n d_Mo_compare_0 rfl <| j_iconst d_Mo_compare_1 <| j_iconst d_Mo_compare_2 <| j_aSI (as := [ji_ x1, ji_ 0, ji_ 3]) (rest := []) d_Mo_compare_3 c_Mo_88 rfl (Nat.le_of_ble_eq_true rfl) hC k1
theorem s_Mo_compare_6 {G : j_G} {d B S N : Nat} {K : Nat → Option (Nat × Nat)} {M : Nat → Int → Int} {g : Nat → Int → Option Nat} {Q : j_O → j_S → Prop} {a0 : Nat} {x1 x2 x3 t0 : Int} {u4 u5 : j_V} (r1 : -2147483648 ≤ t0 ∧ t0 ≤ 2147483647 := by omega) (k1 : t0 = 0 → Q (.inl (some (ji_ (-1)))) (N, K, M, g)) (k2 : t0 ≠ 0 → j_J G jm_Mo_compare d B S 9 [jr_ a0, ji_ x1, ji_ x2, ji_ x3, u4, u5] [] (N, K, M, g) Q) : j_J G jm_Mo_compare d B S 6 [jr_ a0, ji_ x1, ji_ x2, ji_ x3, u4, u5] [ji_ t0] (N, K, M, g) Q :=
  j_if_eq d_Mo_compare_6 r1 (fun h => j_iconst d_Mo_compare_27 <| j_ireturn d_Mo_compare_28 rfl <| k1 h) k2
theorem s_Mo_compare_9 {G : j_G} {d B S N : Nat} {K : Nat → Option (Nat × Nat)} {M : Nat → Int → Int} {g : Nat → Int → Option Nat} {Q : j_O → j_S → Prop} {a0 : Nat} {x1 x2 x3 : Int} {u4 u5 : j_V} {q : Int → (Nat → Int → Int) → Prop} (hC : j_Ct G jm_Mo_within d 0 0 [ji_ x2, ji_ 0, ji_ 3] (N, K, M, g) (j_pI N K g q)) (k1 : ∀ z M', q z M' → j_J G jm_Mo_compare (d + 1) B S 15 [jr_ a0, ji_ x1, ji_ x2, ji_ x3, u4, u5] [ji_ z] (N, K, M', g) Q) : j_J G jm_Mo_compare (d + 1) B S 9 [jr_ a0, ji_ x1, ji_ x2, ji_ x3, u4, u5] [] (N, K, M, g) Q :=
  j_iload_n d_Mo_compare_9 rfl <| j_iconst d_Mo_compare_10 <| j_iconst d_Mo_compare_11 <| j_aSI (as := [ji_ x2, ji_ 0, ji_ 3]) (rest := []) d_Mo_compare_12 c_Mo_88 rfl (Nat.le_of_ble_eq_true rfl) hC k1
theorem s_Mo_compare_15 {G : j_G} {d B S N : Nat} {K : Nat → Option (Nat × Nat)} {M : Nat → Int → Int} {g : Nat → Int → Option Nat} {Q : j_O → j_S → Prop} {a0 : Nat} {x1 x2 x3 t0 : Int} {u4 u5 : j_V} (r1 : -2147483648 ≤ t0 ∧ t0 ≤ 2147483647 := by omega) (k1 : t0 = 0 → Q (.inl (some (ji_ (-1)))) (N, K, M, g)) (k2 : t0 ≠ 0 → j_J G jm_Mo_compare d B S 18 [jr_ a0, ji_ x1, ji_ x2, ji_ x3, u4, u5] [] (N, K, M, g) Q) : j_J G jm_Mo_compare d B S 15 [jr_ a0, ji_ x1, ji_ x2, ji_ x3, u4, u5] [ji_ t0] (N, K, M, g) Q :=
  j_if_eq d_Mo_compare_15 r1 (fun h => j_iconst d_Mo_compare_27 <| j_ireturn d_Mo_compare_28 rfl <| k1 h) k2
theorem s_Mo_compare_18 {G : j_G} {d B S N : Nat} {K : Nat → Option (Nat × Nat)} {M : Nat → Int → Int} {g : Nat → Int → Option Nat} {Q : j_O → j_S → Prop} {a0 : Nat} {x1 x2 x3 : Int} {u4 u5 : j_V} {q : Int → (Nat → Int → Int) → Prop} (hC : j_Ct G jm_Mo_within d 0 0 [ji_ x3, ji_ 0, ji_ 1] (N, K, M, g) (j_pI N K g q)) (k1 : ∀ z M', q z M' → j_J G jm_Mo_compare (d + 1) B S 24 [jr_ a0, ji_ x1, ji_ x2, ji_ x3, u4, u5] [ji_ z] (N, K, M', g) Q) : j_J G jm_Mo_compare (d + 1) B S 18 [jr_ a0, ji_ x1, ji_ x2, ji_ x3, u4, u5] [] (N, K, M, g) Q :=
  j_iload_n d_Mo_compare_18 rfl <| j_iconst d_Mo_compare_19 <| j_iconst d_Mo_compare_20 <| j_aSI (as := [ji_ x3, ji_ 0, ji_ 1]) (rest := []) d_Mo_compare_21 c_Mo_88 rfl (Nat.le_of_ble_eq_true rfl) hC k1
theorem s_Mo_compare_24 {G : j_G} {d B S N : Nat} {K : Nat → Option (Nat × Nat)} {M : Nat → Int → Int} {g : Nat → Int → Option Nat} {Q : j_O → j_S → Prop} {a0 : Nat} {x1 x2 x3 t0 : Int} {u4 u5 : j_V} (r1 : -2147483648 ≤ t0 ∧ t0 ≤ 2147483647 := by omega) (k1 : t0 ≠ 0 → j_J G jm_Mo_compare d B S 29 [jr_ a0, ji_ x1, ji_ x2, ji_ x3, u4, u5] [] (N, K, M, g) Q) (k2 : t0 = 0 → Q (.inl (some (ji_ (-1)))) (N, K, M, g)) : j_J G jm_Mo_compare d B S 24 [jr_ a0, ji_ x1, ji_ x2, ji_ x3, u4, u5] [ji_ t0] (N, K, M, g) Q :=
  j_if_ne d_Mo_compare_24 r1 k1 (fun h => j_iconst d_Mo_compare_27 <| j_ireturn d_Mo_compare_28 rfl <| k2 h)
theorem s_Mo_compare_27 {G : j_G} {d B S N : Nat} {K : Nat → Option (Nat × Nat)} {M : Nat → Int → Int} {g : Nat → Int → Option Nat} {Q : j_O → j_S → Prop} {a0 : Nat} {x1 x2 x3 : Int} {u4 u5 : j_V}  (k1 : Q (.inl (some (ji_ (-1)))) (N, K, M, g)) : j_J G jm_Mo_compare d B S 27 [jr_ a0, ji_ x1, ji_ x2, ji_ x3, u4, u5] [] (N, K, M, g) Q :=
  j_iconst d_Mo_compare_27 <| j_ireturn d_Mo_compare_28 rfl k1
theorem s_Mo_compare_29 {G : j_G} {d B S N : Nat} {K : Nat → Option (Nat × Nat)} {M : Nat → Int → Int} {g : Nat → Int → Option Nat} {Q : j_O → j_S → Prop} {a0 : Nat} {x1 x2 x3 : Int} {u4 u5 : j_V} {q : Int → (Nat → Int → Int) → Prop} (hk1 : K a0 = some (0, 8)) (hC : j_Ct G jm_Mo_allLetters d 0 0 [jr_ a0, ji_ x1] (N, K, M, g) (j_pI N K g q)) (k1 : ∀ z M', q z M' → j_J G jm_Mo_compare (d + 1) B S 34 [jr_ a0, ji_ x1, ji_ x2, ji_ x3, u4, u5] [ji_ z] (N, K, M', g) Q) : j_J G jm_Mo_compare (d + 1) B S 29 [jr_ a0, ji_ x1, ji_ x2, ji_ x3, u4, u5] [] (N, K, M, g) Q :=
  j_aload_n d_Mo_compare_29 rfl <| j_iload_n d_Mo_compare_30 rfl <| j_aVI (as := [ji_ x1]) (rest := []) d_Mo_compare_31 c_Mo_124 hk1 rfl (Nat.le_of_ble_eq_true rfl) hC k1
theorem s_Mo_compare_34 {G : j_G} {d B S N : Nat} {K : Nat → Option (Nat × Nat)} {M : Nat → Int → Int} {g : Nat → Int → Option Nat} {Q : j_O → j_S → Prop} {a0 : Nat} {x1 x2 x3 t0 : Int} {u4 u5 : j_V} (r1 : -2147483648 ≤ t0 ∧ t0 ≤ 2147483647 := by omega) (k1 : t0 = 0 → Q (.inl (some (ji_ (-3)))) (N, K, M, g)) (k2 : t0 ≠ 0 → j_J G jm_Mo_compare d B S 37 [jr_ a0, ji_ x1, ji_ x2, ji_ x3, u4, u5] [] (N, K, M, g) Q) : j_J G jm_Mo_compare d B S 34 [jr_ a0, ji_ x1, ji_ x2, ji_ x3, u4, u5] [ji_ t0] (N, K, M, g) Q :=
  j_if_eq d_Mo_compare_34 r1 (fun h => j_bipush d_Mo_compare_45 (by decide) <| j_ireturn d_Mo_compare_47 rfl <| k1 h) k2
theorem s_Mo_compare_37 {G : j_G} {d B S N : Nat} {K : Nat → Option (Nat × Nat)} {M : Nat → Int → Int} {g : Nat → Int → Option Nat} {Q : j_O → j_S → Prop} {a0 : Nat} {x1 x2 x3 : Int} {u4 u5 : j_V} {q : Int → (Nat → Int → Int) → Prop} (hk1 : K a0 = some (0, 8)) (hC : j_Ct G jm_Mo_allLetters d 0 0 [jr_ a0, ji_ x2] (N, K, M, g) (j_pI N K g q)) (k1 : ∀ z M', q z M' → j_J G jm_Mo_compare (d + 1) B S 42 [jr_ a0, ji_ x1, ji_ x2, ji_ x3, u4, u5] [ji_ z] (N, K, M', g) Q) : j_J G jm_Mo_compare (d + 1) B S 37 [jr_ a0, ji_ x1, ji_ x2, ji_ x3, u4, u5] [] (N, K, M, g) Q :=
  j_aload_n d_Mo_compare_37 rfl <| j_iload_n d_Mo_compare_38 rfl <| j_aVI (as := [ji_ x2]) (rest := []) d_Mo_compare_39 c_Mo_124 hk1 rfl (Nat.le_of_ble_eq_true rfl) hC k1
theorem s_Mo_compare_42 {G : j_G} {d B S N : Nat} {K : Nat → Option (Nat × Nat)} {M : Nat → Int → Int} {g : Nat → Int → Option Nat} {Q : j_O → j_S → Prop} {a0 : Nat} {x1 x2 x3 t0 : Int} {u4 u5 : j_V} (r1 : -2147483648 ≤ t0 ∧ t0 ≤ 2147483647 := by omega) (k1 : t0 ≠ 0 → j_J G jm_Mo_compare d B S 48 [jr_ a0, ji_ x1, ji_ x2, ji_ x3, u4, u5] [] (N, K, M, g) Q) (k2 : t0 = 0 → Q (.inl (some (ji_ (-3)))) (N, K, M, g)) : j_J G jm_Mo_compare d B S 42 [jr_ a0, ji_ x1, ji_ x2, ji_ x3, u4, u5] [ji_ t0] (N, K, M, g) Q :=
  j_if_ne d_Mo_compare_42 r1 k1 (fun h => j_bipush d_Mo_compare_45 (by decide) <| j_ireturn d_Mo_compare_47 rfl <| k2 h)
theorem s_Mo_compare_45 {G : j_G} {d B S N : Nat} {K : Nat → Option (Nat × Nat)} {M : Nat → Int → Int} {g : Nat → Int → Option Nat} {Q : j_O → j_S → Prop} {a0 : Nat} {x1 x2 x3 : Int} {u4 u5 : j_V}  (k1 : Q (.inl (some (ji_ (-3)))) (N, K, M, g)) : j_J G jm_Mo_compare d B S 45 [jr_ a0, ji_ x1, ji_ x2, ji_ x3, u4, u5] [] (N, K, M, g) Q :=
  j_bipush d_Mo_compare_45 (by decide) <| j_ireturn d_Mo_compare_47 rfl k1
theorem s_Mo_compare_48 {G : j_G} {d B S N : Nat} {K : Nat → Option (Nat × Nat)} {M : Nat → Int → Int} {g : Nat → Int → Option Nat} {Q : j_O → j_S → Prop} {a0 : Nat} {x1 x2 x3 : Int} {u4 u5 : j_V} {q : (Nat → Int → Int) → Prop} (hk1 : K a0 = some (0, 8)) (hC : j_Ct G jm_Mo_take d 0 0 [jr_ a0, ji_ x1, ji_ x2] (N, K, M, g) (j_pV N K g q)) (k1 : ∀ M', q M' → j_J G jm_Mo_compare (d + 1) B S 54 [jr_ a0, ji_ x1, ji_ x2, ji_ x3, u4, u5] [] (N, K, M', g) Q) : j_J G jm_Mo_compare (d + 1) B S 48 [jr_ a0, ji_ x1, ji_ x2, ji_ x3, u4, u5] [] (N, K, M, g) Q :=
  j_aload_n d_Mo_compare_48 rfl <| j_iload_n d_Mo_compare_49 rfl <| j_iload_n d_Mo_compare_50 rfl <| j_aVV (as := [ji_ x1, ji_ x2]) (rest := []) d_Mo_compare_51 c_Mo_127 hk1 rfl (Nat.le_of_ble_eq_true rfl) hC k1
theorem s_Mo_compare_54 {G : j_G} {d B S N : Nat} {K : Nat → Option (Nat × Nat)} {M : Nat → Int → Int} {g : Nat → Int → Option Nat} {Q : j_O → j_S → Prop} {a0 : Nat} {x1 x2 x3 : Int} {u4 u5 : j_V} {q : (Nat → Int → Int) → Prop} (hk1 : K a0 = some (0, 8)) (hC : j_Ct G jm_Mo_compareAll d 0 0 [jr_ a0, ji_ x3] (N, K, M, g) (j_pV N K g q)) (k1 : ∀ M', q M' → j_J G jm_Mo_compare (d + 1) B S 59 [jr_ a0, ji_ x1, ji_ x2, ji_ x3, u4, u5] [] (N, K, M', g) Q) : j_J G jm_Mo_compare (d + 1) B S 54 [jr_ a0, ji_ x1, ji_ x2, ji_ x3, u4, u5] [] (N, K, M, g) Q :=
  j_aload_n d_Mo_compare_54 rfl <| j_iload_n d_Mo_compare_55 rfl <| j_aVV (as := [ji_ x3]) (rest := []) d_Mo_compare_56 c_Mo_131 hk1 rfl (Nat.le_of_ble_eq_true rfl) hC k1
theorem s_Mo_compare_59 {G : j_G} {d B S N : Nat} {K : Nat → Option (Nat × Nat)} {M : Nat → Int → Int} {g : Nat → Int → Option Nat} {Q : j_O → j_S → Prop} {a0 : Nat} {x1 x2 x3 : Int} {u4 u5 : j_V} (hk1 : K a0 = some (0, 8)) (k1 : j_J G jm_Mo_compare d B S 86 [jr_ a0, ji_ x1, ji_ x2, ji_ x3, ji_ 0, ji_ 0] [] (N, K, (j_up (j_up (j_up M a0 15 1) a0 16 ((j_up M a0 15 1) a0 2)) a0 17 ((j_up (j_up M a0 15 1) a0 16 ((j_up M a0 15 1) a0 2)) a0 3)), g) Q) : j_J G jm_Mo_compare d B S 59 [jr_ a0, ji_ x1, ji_ x2, ji_ x3, u4, u5] [] (N, K, M, g) Q :=
  j_aload_n d_Mo_compare_59 rfl <| j_iconst d_Mo_compare_60 <| j_putZ' d_Mo_compare_61 f_Mo_135 (⟨_, rfl, Or.inl rfl⟩) rfl hk1 (Or.inr rfl) <| j_aload_n d_Mo_compare_64 rfl <| j_aload_n d_Mo_compare_65 rfl <| j_getI d_Mo_compare_66 f_Mo_96 hk1 <| j_putI d_Mo_compare_69 f_Mo_139 (⟨_, rfl, Or.inl rfl⟩) rfl hk1 <| j_aload_n d_Mo_compare_72 rfl <| j_aload_n d_Mo_compare_73 rfl <| j_getI d_Mo_compare_74 f_Mo_100 hk1 <| j_putI d_Mo_compare_77 f_Mo_142 (⟨_, rfl, Or.inl rfl⟩) rfl hk1 <| j_iconst d_Mo_compare_80 <| j_istore d_Mo_compare_81 rfl rfl <| j_iconst d_Mo_compare_83 <| j_istore d_Mo_compare_84 rfl rfl <| k1
theorem s_Mo_compare_86 {G : j_G} {d B S N : Nat} {K : Nat → Option (Nat × Nat)} {M : Nat → Int → Int} {g : Nat → Int → Option Nat} {Q : j_O → j_S → Prop} {a0 : Nat} {x1 x2 x3 x4 x5 : Int} (hk1 : K a0 = some (0, 8)) (r1 : -2147483648 ≤ x5 ∧ x5 ≤ 2147483647 := by omega) (r2 : -2147483648 ≤ (M a0 2) ∧ (M a0 2) ≤ 2147483647 := by omega) (k1 : (M a0 2) ≤ x5 → j_J G jm_Mo_compare d B S 153 [jr_ a0, ji_ x1, ji_ x2, ji_ x3, ji_ x4, ji_ 0] [] (N, K, M, g) Q) (k2 : x5 < (M a0 2) → j_J G jm_Mo_compare d B S 95 [jr_ a0, ji_ x1, ji_ x2, ji_ x3, ji_ x4, ji_ x5] [] (N, K, M, g) Q) : j_J G jm_Mo_compare d B S 86 [jr_ a0, ji_ x1, ji_ x2, ji_ x3, ji_ x4, ji_ x5] [] (N, K, M, g) Q :=
  j_iload d_Mo_compare_86 rfl <| j_aload_n d_Mo_compare_88 rfl <| j_getI d_Mo_compare_89 f_Mo_96 hk1 <| j_icmp_ge d_Mo_compare_92 r1 r2 (fun h => j_iconst d_Mo_compare_150 <| j_istore d_Mo_compare_151 rfl rfl <| k1 h) k2
theorem s_Mo_compare_95 {G : j_G} {d B S N : Nat} {K : Nat → Option (Nat × Nat)} {M : Nat → Int → Int} {g : Nat → Int → Option Nat} {Q : j_O → j_S → Prop} {a0 y1 y3 n2 n3 y7 y9 n4 n5 : Nat} {x1 x2 x3 x4 x5 : Int} (hk1 : K a0 = some (0, 8)) (hg2 : g a0 18 = some y1) (hg4 : g a0 4 = some y3) (hk2 : K y3 = some (1, n2)) (r5 : 0 ≤ x5 := by omega) (r5' : x5 < (n2 : Int) := by omega) (hk3 : K y1 = some (1, n3)) (r6 : 0 ≤ x5 := by omega) (r6' : x5 < (n3 : Int) := by omega) (hg8 : g a0 20 = some y7) (hg10 : g a0 6 = some y9) (hk4 : K y9 = some (1, n4)) (r11 : 0 ≤ x5 := by omega) (r11' : x5 < (n4 : Int) := by omega) (hk5 : K y7 = some (1, n5)) (r12 : 0 ≤ x5 := by omega) (r12' : x5 < (n5 : Int) := by omega) (r13 : 0 ≤ x5 := by omega) (r13' : x5 < (n4 : Int) := by omega) (r14 : -2147483648 ≤ ((j_up (j_up M y1 x5 (M y3 x5)) y7 x5 ((j_up M y1 x5 (M y3 x5)) y9 x5)) y9 x5) ∧ ((j_up (j_up M y1 x5 (M y3 x5)) y7 x5 ((j_up M y1 x5 (M y3 x5)) y9 x5)) y9 x5) ≤ 2147483647 := by omega) (k1 : ((j_up (j_up M y1 x5 (M y3 x5)) y7 x5 ((j_up M y1 x5 (M y3 x5)) y9 x5)) y9 x5) < 0 → j_J G jm_Mo_compare d B S 86 [jr_ a0, ji_ x1, ji_ x2, ji_ x3, ji_ x4, ji_ (x5 + 1)] [] (N, K, (j_up (j_up M y1 x5 (M y3 x5)) y7 x5 ((j_up M y1 x5 (M y3 x5)) y9 x5)), g) Q) (k2 : 0 ≤ ((j_up (j_up M y1 x5 (M y3 x5)) y7 x5 ((j_up M y1 x5 (M y3 x5)) y9 x5)) y9 x5) → j_J G jm_Mo_compare d B S 86 [jr_ a0, ji_ x1, ji_ x2, ji_ x3, ji_ (x4 + 1), ji_ (x5 + 1)] [] (N, K, (j_up (j_up M y1 x5 (M y3 x5)) y7 x5 ((j_up M y1 x5 (M y3 x5)) y9 x5)), g) Q) : j_J G jm_Mo_compare d B S 95 [jr_ a0, ji_ x1, ji_ x2, ji_ x3, ji_ x4, ji_ x5] [] (N, K, M, g) Q :=
  j_aload_n d_Mo_compare_95 rfl <| j_getR d_Mo_compare_96 f_Mo_46 hk1 hg2 <| j_iload d_Mo_compare_99 rfl <| j_aload_n d_Mo_compare_101 rfl <| j_getR d_Mo_compare_102 f_Mo_16 hk1 hg4 <| j_iload d_Mo_compare_105 rfl <| j_iald d_Mo_compare_107 hk2 r5 r5' <| j_iast d_Mo_compare_108 hk3 r6 r6' <| j_aload_n d_Mo_compare_109 rfl <| j_getR d_Mo_compare_110 f_Mo_52 hk1 hg8 <| j_iload d_Mo_compare_113 rfl <| j_aload_n d_Mo_compare_115 rfl <| j_getR d_Mo_compare_116 f_Mo_22 hk1 hg10 <| j_iload d_Mo_compare_119 rfl <| j_iald d_Mo_compare_121 hk4 r11 r11' <| j_iast d_Mo_compare_122 hk5 r12 r12' <| j_aload_n d_Mo_compare_123 rfl <| j_getR d_Mo_compare_124 f_Mo_22 hk1 hg10 <| j_iload d_Mo_compare_127 rfl <| j_iald d_Mo_compare_129 hk4 r13 r13' <| j_if_lt d_Mo_compare_130 r14 (fun h => j_iload d_Mo_compare_140 rfl <| j_istore d_Mo_compare_142 rfl rfl <| j_iinc d_Mo_compare_144 rfl rfl rfl <| j_goto d_Mo_compare_147 <| k1 h) (fun h => j_iload d_Mo_compare_133 rfl <| j_iconst d_Mo_compare_135 <| j_iadd d_Mo_compare_136 <| j_goto d_Mo_compare_137 <| j_istore d_Mo_compare_142 rfl rfl <| j_iinc d_Mo_compare_144 rfl rfl rfl <| j_goto d_Mo_compare_147 <| k2 h)
theorem s_Mo_compare_133 {G : j_G} {d B S N : Nat} {K : Nat → Option (Nat × Nat)} {M : Nat → Int → Int} {g : Nat → Int → Option Nat} {Q : j_O → j_S → Prop} {a0 : Nat} {x1 x2 x3 x4 x5 : Int}  (k1 : j_J G jm_Mo_compare d B S 86 [jr_ a0, ji_ x1, ji_ x2, ji_ x3, ji_ (x4 + 1), ji_ (x5 + 1)] [] (N, K, M, g) Q) : j_J G jm_Mo_compare d B S 133 [jr_ a0, ji_ x1, ji_ x2, ji_ x3, ji_ x4, ji_ x5] [] (N, K, M, g) Q :=
  j_iload d_Mo_compare_133 rfl <| j_iconst d_Mo_compare_135 <| j_iadd d_Mo_compare_136 <| j_goto d_Mo_compare_137 (j_istore d_Mo_compare_142 rfl rfl <| j_iinc d_Mo_compare_144 rfl rfl rfl <| j_goto d_Mo_compare_147 <| k1)
theorem s_Mo_compare_140 {G : j_G} {d B S N : Nat} {K : Nat → Option (Nat × Nat)} {M : Nat → Int → Int} {g : Nat → Int → Option Nat} {Q : j_O → j_S → Prop} {a0 : Nat} {x1 x2 x3 x4 x5 : Int}  (k1 : j_J G jm_Mo_compare d B S 86 [jr_ a0, ji_ x1, ji_ x2, ji_ x3, ji_ x4, ji_ (x5 + 1)] [] (N, K, M, g) Q) : j_J G jm_Mo_compare d B S 140 [jr_ a0, ji_ x1, ji_ x2, ji_ x3, ji_ x4, ji_ x5] [] (N, K, M, g) Q :=
  j_iload d_Mo_compare_140 rfl <| (j_istore d_Mo_compare_142 rfl rfl <| j_iinc d_Mo_compare_144 rfl rfl rfl <| j_goto d_Mo_compare_147 <| k1)
theorem s_Mo_compare_142 {G : j_G} {d B S N : Nat} {K : Nat → Option (Nat × Nat)} {M : Nat → Int → Int} {g : Nat → Int → Option Nat} {Q : j_O → j_S → Prop} {a0 : Nat} {x1 x2 x3 x4 x5 t0 : Int}  (k1 : j_J G jm_Mo_compare d B S 86 [jr_ a0, ji_ x1, ji_ x2, ji_ x3, ji_ t0, ji_ (x5 + 1)] [] (N, K, M, g) Q) : j_J G jm_Mo_compare d B S 142 [jr_ a0, ji_ x1, ji_ x2, ji_ x3, ji_ x4, ji_ x5] [ji_ t0] (N, K, M, g) Q :=
  j_istore d_Mo_compare_142 rfl rfl <| j_iinc d_Mo_compare_144 rfl rfl rfl <| j_goto d_Mo_compare_147 k1
theorem s_Mo_compare_150 {G : j_G} {d B S N : Nat} {K : Nat → Option (Nat × Nat)} {M : Nat → Int → Int} {g : Nat → Int → Option Nat} {Q : j_O → j_S → Prop} {a0 : Nat} {x1 x2 x3 x4 x5 : Int}  (k1 : j_J G jm_Mo_compare d B S 153 [jr_ a0, ji_ x1, ji_ x2, ji_ x3, ji_ x4, ji_ 0] [] (N, K, M, g) Q) : j_J G jm_Mo_compare d B S 150 [jr_ a0, ji_ x1, ji_ x2, ji_ x3, ji_ x4, ji_ x5] [] (N, K, M, g) Q :=
  j_iconst d_Mo_compare_150 <| j_istore d_Mo_compare_151 rfl rfl <| k1
theorem s_Mo_compare_153 {G : j_G} {d B S N : Nat} {K : Nat → Option (Nat × Nat)} {M : Nat → Int → Int} {g : Nat → Int → Option Nat} {Q : j_O → j_S → Prop} {a0 : Nat} {x1 x2 x3 x4 x5 : Int} (hk1 : K a0 = some (0, 8)) (r1 : -2147483648 ≤ x5 ∧ x5 ≤ 2147483647 := by omega) (r2 : -2147483648 ≤ (M a0 3) ∧ (M a0 3) ≤ 2147483647 := by omega) (k1 : (M a0 3) ≤ x5 → j_J G jm_Mo_compare d B S 182 [jr_ a0, ji_ x1, ji_ x2, ji_ x3, ji_ x4, ji_ x5] [] (N, K, M, g) Q) (k2 : x5 < (M a0 3) → j_J G jm_Mo_compare d B S 162 [jr_ a0, ji_ x1, ji_ x2, ji_ x3, ji_ x4, ji_ x5] [] (N, K, M, g) Q) : j_J G jm_Mo_compare d B S 153 [jr_ a0, ji_ x1, ji_ x2, ji_ x3, ji_ x4, ji_ x5] [] (N, K, M, g) Q :=
  j_iload d_Mo_compare_153 rfl <| j_aload_n d_Mo_compare_155 rfl <| j_getI d_Mo_compare_156 f_Mo_100 hk1 <| j_icmp_ge d_Mo_compare_159 r1 r2 k1 k2
theorem s_Mo_compare_162 {G : j_G} {d B S N : Nat} {K : Nat → Option (Nat × Nat)} {M : Nat → Int → Int} {g : Nat → Int → Option Nat} {Q : j_O → j_S → Prop} {a0 y1 y3 n2 n3 : Nat} {x1 x2 x3 x4 x5 : Int} (hk1 : K a0 = some (0, 8)) (hg2 : g a0 19 = some y1) (hg4 : g a0 5 = some y3) (hk2 : K y3 = some (1, n2)) (r5 : 0 ≤ x5 := by omega) (r5' : x5 < (n2 : Int) := by omega) (hk3 : K y1 = some (1, n3)) (r6 : 0 ≤ x5 := by omega) (r6' : x5 < (n3 : Int) := by omega) (k1 : j_J G jm_Mo_compare d B S 153 [jr_ a0, ji_ x1, ji_ x2, ji_ x3, ji_ x4, ji_ (x5 + 1)] [] (N, K, (j_up M y1 x5 (M y3 x5)), g) Q) : j_J G jm_Mo_compare d B S 162 [jr_ a0, ji_ x1, ji_ x2, ji_ x3, ji_ x4, ji_ x5] [] (N, K, M, g) Q :=
  j_aload_n d_Mo_compare_162 rfl <| j_getR d_Mo_compare_163 f_Mo_49 hk1 hg2 <| j_iload d_Mo_compare_166 rfl <| j_aload_n d_Mo_compare_168 rfl <| j_getR d_Mo_compare_169 f_Mo_19 hk1 hg4 <| j_iload d_Mo_compare_172 rfl <| j_iald d_Mo_compare_174 hk2 r5 r5' <| j_iast d_Mo_compare_175 hk3 r6 r6' <| j_iinc d_Mo_compare_176 rfl rfl rfl <| j_goto d_Mo_compare_179 k1
theorem s_Mo_compare_182 {G : j_G} {d B S N : Nat} {K : Nat → Option (Nat × Nat)} {M : Nat → Int → Int} {g : Nat → Int → Option Nat} {Q : j_O → j_S → Prop} {a0 : Nat} {x1 x2 x3 x4 x5 : Int} (hk1 : K a0 = some (0, 8)) (k1 : Q (.inl (some (ji_ (((M a0 2) + (M a0 3)) - (2 * x4))))) (N, K, M, g)) : j_J G jm_Mo_compare d B S 182 [jr_ a0, ji_ x1, ji_ x2, ji_ x3, ji_ x4, ji_ x5] [] (N, K, M, g) Q :=
  j_aload_n d_Mo_compare_182 rfl <| j_getI d_Mo_compare_183 f_Mo_96 hk1 <| j_aload_n d_Mo_compare_186 rfl <| j_getI d_Mo_compare_187 f_Mo_100 hk1 <| j_iadd d_Mo_compare_190 <| j_iconst d_Mo_compare_191 <| j_iload d_Mo_compare_192 rfl <| j_imul d_Mo_compare_194 <| j_isub d_Mo_compare_195 <| j_ireturn d_Mo_compare_196 rfl k1
theorem s_Mo_match_0 {G : j_G} {d B S N : Nat} {K : Nat → Option (Nat × Nat)} {M : Nat → Int → Int} {g : Nat → Int → Option Nat} {Q : j_O → j_S → Prop} {a0 : Nat} {x1 : Int} (hk1 : K a0 = some (0, 8)) (r1 : -2147483648 ≤ (M a0 15) ∧ (M a0 15) ≤ 2147483647 := by omega) (k1 : (M a0 15) = 0 → Q (.inl (some (ji_ (-3)))) (N, K, M, g)) (k2 : (M a0 15) ≠ 0 → j_J G jm_Mo_match d B S 7 [jr_ a0, ji_ x1] [] (N, K, M, g) Q) : j_J G jm_Mo_match d B S 0 [jr_ a0, ji_ x1] [] (N, K, M, g) Q :=
  j_aload_n d_Mo_match_0 rfl <| j_getI d_Mo_match_1 f_Mo_135 hk1 <| j_if_eq d_Mo_match_4 r1 (fun h => j_bipush d_Mo_match_39 (by decide) <| j_ireturn d_Mo_match_41 rfl <| k1 h) k2
theorem s_Mo_match_7 {G : j_G} {d B S N : Nat} {K : Nat → Option (Nat × Nat)} {M : Nat → Int → Int} {g : Nat → Int → Option Nat} {Q : j_O → j_S → Prop} {a0 : Nat} {x1 : Int} {q : Int → (Nat → Int → Int) → Prop} (hk1 : K a0 = some (0, 8)) (hC : j_Ct G jm_Mo_within d 0 0 [ji_ x1, ji_ 0, ji_ ((M a0 16) - 1)] (N, K, M, g) (j_pI N K g q)) (k1 : ∀ z M', q z M' → j_J G jm_Mo_match (d + 1) B S 18 [jr_ a0, ji_ x1] [ji_ z] (N, K, M', g) Q) : j_J G jm_Mo_match (d + 1) B S 7 [jr_ a0, ji_ x1] [] (N, K, M, g) Q :=
  j_iload_n d_Mo_match_7 rfl <| j_iconst d_Mo_match_8 <| j_aload_n d_Mo_match_9 rfl <| j_getI d_Mo_match_10 f_Mo_139 hk1 <| j_iconst d_Mo_match_13 <| j_isub d_Mo_match_14 <| j_aSI (as := [ji_ x1, ji_ 0, ji_ ((M a0 16) - 1)]) (rest := []) d_Mo_match_15 c_Mo_88 rfl (Nat.le_of_ble_eq_true rfl) hC k1
theorem s_Mo_match_18 {G : j_G} {d B S N : Nat} {K : Nat → Option (Nat × Nat)} {M : Nat → Int → Int} {g : Nat → Int → Option Nat} {Q : j_O → j_S → Prop} {a0 : Nat} {x1 t0 : Int} (r1 : -2147483648 ≤ t0 ∧ t0 ≤ 2147483647 := by omega) (k1 : t0 = 0 → Q (.inl (some (ji_ (-3)))) (N, K, M, g)) (k2 : t0 ≠ 0 → j_J G jm_Mo_match d B S 21 [jr_ a0, ji_ x1] [] (N, K, M, g) Q) : j_J G jm_Mo_match d B S 18 [jr_ a0, ji_ x1] [ji_ t0] (N, K, M, g) Q :=
  j_if_eq d_Mo_match_18 r1 (fun h => j_bipush d_Mo_match_39 (by decide) <| j_ireturn d_Mo_match_41 rfl <| k1 h) k2
theorem s_Mo_match_21 {G : j_G} {d B S N : Nat} {K : Nat → Option (Nat × Nat)} {M : Nat → Int → Int} {g : Nat → Int → Option Nat} {Q : j_O → j_S → Prop} {a0 y1 n2 : Nat} {x1 : Int} (hk1 : K a0 = some (0, 8)) (hg2 : g a0 20 = some y1) (hk2 : K y1 = some (1, n2)) (r3 : 0 ≤ x1 := by omega) (r3' : x1 < (n2 : Int) := by omega) (r4 : -2147483648 ≤ (M y1 x1) ∧ (M y1 x1) ≤ 2147483647 := by omega) (k1 : (M y1 x1) < 0 → Q (.inl (some (ji_ (-3)))) (N, K, M, g)) (k2 : 0 ≤ (M y1 x1) → j_J G jm_Mo_match d B S 30 [jr_ a0, ji_ x1] [] (N, K, M, g) Q) : j_J G jm_Mo_match d B S 21 [jr_ a0, ji_ x1] [] (N, K, M, g) Q :=
  j_aload_n d_Mo_match_21 rfl <| j_getR d_Mo_match_22 f_Mo_52 hk1 hg2 <| j_iload_n d_Mo_match_25 rfl <| j_iald d_Mo_match_26 hk2 r3 r3' <| j_if_lt d_Mo_match_27 r4 (fun h => j_bipush d_Mo_match_39 (by decide) <| j_ireturn d_Mo_match_41 rfl <| k1 h) k2
theorem s_Mo_match_30 {G : j_G} {d B S N : Nat} {K : Nat → Option (Nat × Nat)} {M : Nat → Int → Int} {g : Nat → Int → Option Nat} {Q : j_O → j_S → Prop} {a0 y1 n2 : Nat} {x1 : Int} (hk1 : K a0 = some (0, 8)) (hg2 : g a0 20 = some y1) (hk2 : K y1 = some (1, n2)) (r3 : 0 ≤ x1 := by omega) (r3' : x1 < (n2 : Int) := by omega) (k1 : Q (.inl (some (ji_ (M y1 x1)))) (N, K, M, g)) : j_J G jm_Mo_match d B S 30 [jr_ a0, ji_ x1] [] (N, K, M, g) Q :=
  j_aload_n d_Mo_match_30 rfl <| j_getR d_Mo_match_31 f_Mo_52 hk1 hg2 <| j_iload_n d_Mo_match_34 rfl <| j_iald d_Mo_match_35 hk2 r3 r3' <| j_goto d_Mo_match_36 (j_ireturn d_Mo_match_41 rfl <| k1)
theorem s_Mo_match_39 {G : j_G} {d B S N : Nat} {K : Nat → Option (Nat × Nat)} {M : Nat → Int → Int} {g : Nat → Int → Option Nat} {Q : j_O → j_S → Prop} {a0 : Nat} {x1 : Int}  (k1 : Q (.inl (some (ji_ (-3)))) (N, K, M, g)) : j_J G jm_Mo_match d B S 39 [jr_ a0, ji_ x1] [] (N, K, M, g) Q :=
  j_bipush d_Mo_match_39 (by decide) <| (j_ireturn d_Mo_match_41 rfl <| k1)
theorem s_Mo_match_41 {G : j_G} {d B S N : Nat} {K : Nat → Option (Nat × Nat)} {M : Nat → Int → Int} {g : Nat → Int → Option Nat} {Q : j_O → j_S → Prop} {a0 : Nat} {x1 t0 : Int}  (k1 : Q (.inl (some (ji_ t0))) (N, K, M, g)) : j_J G jm_Mo_match d B S 41 [jr_ a0, ji_ x1] [ji_ t0] (N, K, M, g) Q :=
  j_ireturn d_Mo_match_41 rfl k1
