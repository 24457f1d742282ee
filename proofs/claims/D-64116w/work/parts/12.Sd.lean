/-! decode facts, pool facts and segments: Sd_once, Sd_run, Sd_go, Sd_anchor (printed by gen/mk.py) -/
theorem d_Sd_once_0 : j_D jm_Sd_once 0 (.iconst (-1)) 1 1 := ⟨by decide +kernel, rfl⟩
theorem d_Sd_once_1 : j_D jm_Sd_once 1 (.istore 4) 2 3 := ⟨by decide +kernel, rfl⟩
theorem d_Sd_once_3 : j_D jm_Sd_once 3 (.iconst 0) 1 4 := ⟨by decide +kernel, rfl⟩
theorem d_Sd_once_4 : j_D jm_Sd_once 4 (.istore 5) 2 6 := ⟨by decide +kernel, rfl⟩
theorem d_Sd_once_6 : j_D jm_Sd_once 6 (.iload_n 1) 1 7 := ⟨by decide +kernel, rfl⟩
theorem d_Sd_once_7 : j_D jm_Sd_once 7 (.istore 6) 2 9 := ⟨by decide +kernel, rfl⟩
theorem d_Sd_once_9 : j_D jm_Sd_once 9 (.iload 6) 2 11 := ⟨by decide +kernel, rfl⟩
theorem d_Sd_once_11 : j_D jm_Sd_once 11 (.iload_n 2) 1 12 := ⟨by decide +kernel, rfl⟩
theorem d_Sd_once_12 : j_E jm_Sd_once 12 (.if_icmp .ge) 50 15 62 := ⟨by decide +kernel, rfl, by decide⟩
theorem d_Sd_once_15 : j_D jm_Sd_once 15 (.iload 5) 2 17 := ⟨by decide +kernel, rfl⟩
theorem d_Sd_once_17 : j_D jm_Sd_once 17 (.aload_n 0) 1 18 := ⟨by decide +kernel, rfl⟩
theorem d_Sd_once_18 : j_D jm_Sd_once 18 (.getfield 25) 3 21 := ⟨by decide +kernel, rfl⟩
theorem d_Sd_once_21 : j_D jm_Sd_once 21 (.iload 6) 2 23 := ⟨by decide +kernel, rfl⟩
theorem d_Sd_once_23 : j_D jm_Sd_once 23 .baload 1 24 := ⟨by decide +kernel, rfl⟩
theorem d_Sd_once_24 : j_D jm_Sd_once 24 (.iload_n 3) 1 25 := ⟨by decide +kernel, rfl⟩
theorem d_Sd_once_25 : j_E jm_Sd_once 25 (.if_icmp .ne) 7 28 32 := ⟨by decide +kernel, rfl, by decide⟩
theorem d_Sd_once_28 : j_D jm_Sd_once 28 (.iconst 1) 1 29 := ⟨by decide +kernel, rfl⟩
theorem d_Sd_once_29 : j_E jm_Sd_once 29 .goto 4 32 33 := ⟨by decide +kernel, rfl, by decide⟩
theorem d_Sd_once_32 : j_D jm_Sd_once 32 (.iconst 0) 1 33 := ⟨by decide +kernel, rfl⟩
theorem d_Sd_once_33 : j_D jm_Sd_once 33 .iadd 1 34 := ⟨by decide +kernel, rfl⟩
theorem d_Sd_once_34 : j_D jm_Sd_once 34 (.istore 5) 2 36 := ⟨by decide +kernel, rfl⟩
theorem d_Sd_once_36 : j_D jm_Sd_once 36 (.aload_n 0) 1 37 := ⟨by decide +kernel, rfl⟩
theorem d_Sd_once_37 : j_D jm_Sd_once 37 (.getfield 25) 3 40 := ⟨by decide +kernel, rfl⟩
theorem d_Sd_once_40 : j_D jm_Sd_once 40 (.iload 6) 2 42 := ⟨by decide +kernel, rfl⟩
theorem d_Sd_once_42 : j_D jm_Sd_once 42 .baload 1 43 := ⟨by decide +kernel, rfl⟩
theorem d_Sd_once_43 : j_D jm_Sd_once 43 (.iload_n 3) 1 44 := ⟨by decide +kernel, rfl⟩
theorem d_Sd_once_44 : j_E jm_Sd_once 44 (.if_icmp .ne) 8 47 52 := ⟨by decide +kernel, rfl, by decide⟩
theorem d_Sd_once_47 : j_D jm_Sd_once 47 (.iload 6) 2 49 := ⟨by decide +kernel, rfl⟩
theorem d_Sd_once_49 : j_E jm_Sd_once 49 .goto 5 52 54 := ⟨by decide +kernel, rfl, by decide⟩
theorem d_Sd_once_52 : j_D jm_Sd_once 52 (.iload 4) 2 54 := ⟨by decide +kernel, rfl⟩
theorem d_Sd_once_54 : j_D jm_Sd_once 54 (.istore 4) 2 56 := ⟨by decide +kernel, rfl⟩
theorem d_Sd_once_56 : j_D jm_Sd_once 56 (.iinc 6 1) 3 59 := ⟨by decide +kernel, rfl⟩
theorem d_Sd_once_59 : j_E jm_Sd_once 59 .goto (-50) 62 9 := ⟨by decide +kernel, rfl, by decide⟩
theorem d_Sd_once_62 : j_D jm_Sd_once 62 (.iload 5) 2 64 := ⟨by decide +kernel, rfl⟩
theorem d_Sd_once_64 : j_D jm_Sd_once 64 (.iconst 1) 1 65 := ⟨by decide +kernel, rfl⟩
theorem d_Sd_once_65 : j_E jm_Sd_once 65 (.if_icmp .ne) 8 68 73 := ⟨by decide +kernel, rfl, by decide⟩
theorem d_Sd_once_68 : j_D jm_Sd_once 68 (.iload 4) 2 70 := ⟨by decide +kernel, rfl⟩
theorem d_Sd_once_70 : j_E jm_Sd_once 70 .goto 4 73 74 := ⟨by decide +kernel, rfl, by decide⟩
theorem d_Sd_once_73 : j_D jm_Sd_once 73 (.iconst (-1)) 1 74 := ⟨by decide +kernel, rfl⟩
theorem d_Sd_once_74 : j_D jm_Sd_once 74 .ireturn 1 75 := ⟨by decide +kernel, rfl⟩
theorem d_Sd_run_0 : j_D jm_Sd_run 0 (.aload_n 0) 1 1 := ⟨by decide +kernel, rfl⟩
theorem d_Sd_run_1 : j_D jm_Sd_run 1 (.aload_n 1) 1 2 := ⟨by decide +kernel, rfl⟩
theorem d_Sd_run_2 : j_D jm_Sd_run 2 (.iload_n 2) 1 3 := ⟨by decide +kernel, rfl⟩
theorem d_Sd_run_3 : j_D jm_Sd_run 3 (.iload_n 3) 1 4 := ⟨by decide +kernel, rfl⟩
theorem d_Sd_run_4 : j_D jm_Sd_run 4 (.iload 4) 2 6 := ⟨by decide +kernel, rfl⟩
theorem d_Sd_run_6 : j_D jm_Sd_run 6 (.iload 5) 2 8 := ⟨by decide +kernel, rfl⟩
theorem d_Sd_run_8 : j_D jm_Sd_run 8 (.iconst 0) 1 9 := ⟨by decide +kernel, rfl⟩
theorem d_Sd_run_9 : j_D jm_Sd_run 9 (.invokestatic 31) 3 12 := ⟨by decide +kernel, rfl⟩
theorem d_Sd_run_12 : j_D jm_Sd_run 12 .return_ 1 13 := ⟨by decide +kernel, rfl⟩
theorem d_Sd_go_0 : j_D jm_Sd_go 0 (.iload_n 2) 1 1 := ⟨by decide +kernel, rfl⟩
theorem d_Sd_go_1 : j_D jm_Sd_go 1 (.istore 7) 2 3 := ⟨by decide +kernel, rfl⟩
theorem d_Sd_go_3 : j_D jm_Sd_go 3 (.iload 4) 2 5 := ⟨by decide +kernel, rfl⟩
theorem d_Sd_go_5 : j_D jm_Sd_go 5 (.istore 8) 2 7 := ⟨by decide +kernel, rfl⟩
theorem d_Sd_go_7 : j_D jm_Sd_go 7 (.iload_n 3) 1 8 := ⟨by decide +kernel, rfl⟩
theorem d_Sd_go_8 : j_D jm_Sd_go 8 (.istore 9) 2 10 := ⟨by decide +kernel, rfl⟩
theorem d_Sd_go_10 : j_D jm_Sd_go 10 (.iload 5) 2 12 := ⟨by decide +kernel, rfl⟩
theorem d_Sd_go_12 : j_D jm_Sd_go 12 (.istore 10) 2 14 := ⟨by decide +kernel, rfl⟩
theorem d_Sd_go_14 : j_D jm_Sd_go 14 (.iload 7) 2 16 := ⟨by decide +kernel, rfl⟩
theorem d_Sd_go_16 : j_D jm_Sd_go 16 (.iload 9) 2 18 := ⟨by decide +kernel, rfl⟩
theorem d_Sd_go_18 : j_E jm_Sd_go 18 (.if_icmp .ge) 40 21 58 := ⟨by decide +kernel, rfl, by decide⟩
theorem d_Sd_go_21 : j_D jm_Sd_go 21 (.iload 8) 2 23 := ⟨by decide +kernel, rfl⟩
theorem d_Sd_go_23 : j_D jm_Sd_go 23 (.iload 10) 2 25 := ⟨by decide +kernel, rfl⟩
theorem d_Sd_go_25 : j_E jm_Sd_go 25 (.if_icmp .ge) 33 28 58 := ⟨by decide +kernel, rfl, by decide⟩
theorem d_Sd_go_28 : j_D jm_Sd_go 28 (.aload_n 1) 1 29 := ⟨by decide +kernel, rfl⟩
theorem d_Sd_go_29 : j_D jm_Sd_go 29 (.iload 7) 2 31 := ⟨by decide +kernel, rfl⟩
theorem d_Sd_go_31 : j_D jm_Sd_go 31 (.iload 8) 2 33 := ⟨by decide +kernel, rfl⟩
theorem d_Sd_go_33 : j_D jm_Sd_go 33 (.invokevirtual 35) 3 36 := ⟨by decide +kernel, rfl⟩
theorem d_Sd_go_36 : j_E jm_Sd_go 36 (.ifCond .eq) 22 39 58 := ⟨by decide +kernel, rfl, by decide⟩
theorem d_Sd_go_39 : j_D jm_Sd_go 39 (.aload_n 1) 1 40 := ⟨by decide +kernel, rfl⟩
theorem d_Sd_go_40 : j_D jm_Sd_go 40 (.getfield 41) 3 43 := ⟨by decide +kernel, rfl⟩
theorem d_Sd_go_43 : j_D jm_Sd_go 43 (.iload 7) 2 45 := ⟨by decide +kernel, rfl⟩
theorem d_Sd_go_45 : j_D jm_Sd_go 45 (.iload 8) 2 47 := ⟨by decide +kernel, rfl⟩
theorem d_Sd_go_47 : j_D jm_Sd_go 47 .i2b 1 48 := ⟨by decide +kernel, rfl⟩
theorem d_Sd_go_48 : j_D jm_Sd_go 48 .bastore 1 49 := ⟨by decide +kernel, rfl⟩
theorem d_Sd_go_49 : j_D jm_Sd_go 49 (.iinc 7 1) 3 52 := ⟨by decide +kernel, rfl⟩
theorem d_Sd_go_52 : j_D jm_Sd_go 52 (.iinc 8 1) 3 55 := ⟨by decide +kernel, rfl⟩
theorem d_Sd_go_55 : j_E jm_Sd_go 55 .goto (-41) 58 14 := ⟨by decide +kernel, rfl, by decide⟩
theorem d_Sd_go_58 : j_D jm_Sd_go 58 (.iload 7) 2 60 := ⟨by decide +kernel, rfl⟩
theorem d_Sd_go_60 : j_D jm_Sd_go 60 (.iload 9) 2 62 := ⟨by decide +kernel, rfl⟩
theorem d_Sd_go_62 : j_E jm_Sd_go 62 (.if_icmp .ge) 44 65 106 := ⟨by decide +kernel, rfl, by decide⟩
theorem d_Sd_go_65 : j_D jm_Sd_go 65 (.iload 8) 2 67 := ⟨by decide +kernel, rfl⟩
theorem d_Sd_go_67 : j_D jm_Sd_go 67 (.iload 10) 2 69 := ⟨by decide +kernel, rfl⟩
theorem d_Sd_go_69 : j_E jm_Sd_go 69 (.if_icmp .ge) 37 72 106 := ⟨by decide +kernel, rfl, by decide⟩
theorem d_Sd_go_72 : j_D jm_Sd_go 72 (.aload_n 1) 1 73 := ⟨by decide +kernel, rfl⟩
theorem d_Sd_go_73 : j_D jm_Sd_go 73 (.iload 9) 2 75 := ⟨by decide +kernel, rfl⟩
theorem d_Sd_go_75 : j_D jm_Sd_go 75 (.iconst 1) 1 76 := ⟨by decide +kernel, rfl⟩
theorem d_Sd_go_76 : j_D jm_Sd_go 76 .isub 1 77 := ⟨by decide +kernel, rfl⟩
theorem d_Sd_go_77 : j_D jm_Sd_go 77 (.iload 10) 2 79 := ⟨by decide +kernel, rfl⟩
theorem d_Sd_go_79 : j_D jm_Sd_go 79 (.iconst 1) 1 80 := ⟨by decide +kernel, rfl⟩
theorem d_Sd_go_80 : j_D jm_Sd_go 80 .isub 1 81 := ⟨by decide +kernel, rfl⟩
theorem d_Sd_go_81 : j_D jm_Sd_go 81 (.invokevirtual 35) 3 84 := ⟨by decide +kernel, rfl⟩
theorem d_Sd_go_84 : j_E jm_Sd_go 84 (.ifCond .eq) 22 87 106 := ⟨by decide +kernel, rfl, by decide⟩
theorem d_Sd_go_87 : j_D jm_Sd_go 87 (.iinc 9 (-1)) 3 90 := ⟨by decide +kernel, rfl⟩
theorem d_Sd_go_90 : j_D jm_Sd_go 90 (.iinc 10 (-1)) 3 93 := ⟨by decide +kernel, rfl⟩
theorem d_Sd_go_93 : j_D jm_Sd_go 93 (.aload_n 1) 1 94 := ⟨by decide +kernel, rfl⟩
theorem d_Sd_go_94 : j_D jm_Sd_go 94 (.getfield 41) 3 97 := ⟨by decide +kernel, rfl⟩
theorem d_Sd_go_97 : j_D jm_Sd_go 97 (.iload 9) 2 99 := ⟨by decide +kernel, rfl⟩
theorem d_Sd_go_99 : j_D jm_Sd_go 99 (.iload 10) 2 101 := ⟨by decide +kernel, rfl⟩
theorem d_Sd_go_101 : j_D jm_Sd_go 101 .i2b 1 102 := ⟨by decide +kernel, rfl⟩
theorem d_Sd_go_102 : j_D jm_Sd_go 102 .bastore 1 103 := ⟨by decide +kernel, rfl⟩
theorem d_Sd_go_103 : j_E jm_Sd_go 103 .goto (-45) 106 58 := ⟨by decide +kernel, rfl, by decide⟩
theorem d_Sd_go_106 : j_D jm_Sd_go 106 (.iload 6) 2 108 := ⟨by decide +kernel, rfl⟩
theorem d_Sd_go_108 : j_D jm_Sd_go 108 (.bipush 30) 2 110 := ⟨by decide +kernel, rfl⟩
theorem d_Sd_go_110 : j_E jm_Sd_go 110 (.if_icmp .gt) 19 113 129 := ⟨by decide +kernel, rfl, by decide⟩
theorem d_Sd_go_113 : j_D jm_Sd_go 113 (.aload_n 0) 1 114 := ⟨by decide +kernel, rfl⟩
theorem d_Sd_go_114 : j_D jm_Sd_go 114 (.aload_n 1) 1 115 := ⟨by decide +kernel, rfl⟩
theorem d_Sd_go_115 : j_D jm_Sd_go 115 (.iload 7) 2 117 := ⟨by decide +kernel, rfl⟩
theorem d_Sd_go_117 : j_D jm_Sd_go 117 (.iload 9) 2 119 := ⟨by decide +kernel, rfl⟩
theorem d_Sd_go_119 : j_D jm_Sd_go 119 (.iload 8) 2 121 := ⟨by decide +kernel, rfl⟩
theorem d_Sd_go_121 : j_D jm_Sd_go 121 (.iload 10) 2 123 := ⟨by decide +kernel, rfl⟩
theorem d_Sd_go_123 : j_D jm_Sd_go 123 (.invokevirtual 44) 3 126 := ⟨by decide +kernel, rfl⟩
theorem d_Sd_go_126 : j_E jm_Sd_go 126 (.ifCond .ne) 22 129 148 := ⟨by decide +kernel, rfl, by decide⟩
theorem d_Sd_go_129 : j_D jm_Sd_go 129 (.aload_n 0) 1 130 := ⟨by decide +kernel, rfl⟩
theorem d_Sd_go_130 : j_D jm_Sd_go 130 (.getfield 21) 3 133 := ⟨by decide +kernel, rfl⟩
theorem d_Sd_go_133 : j_D jm_Sd_go 133 (.aload_n 1) 1 134 := ⟨by decide +kernel, rfl⟩
theorem d_Sd_go_134 : j_D jm_Sd_go 134 (.iload 7) 2 136 := ⟨by decide +kernel, rfl⟩
theorem d_Sd_go_136 : j_D jm_Sd_go 136 (.iload 9) 2 138 := ⟨by decide +kernel, rfl⟩
theorem d_Sd_go_138 : j_D jm_Sd_go 138 (.iload 8) 2 140 := ⟨by decide +kernel, rfl⟩
theorem d_Sd_go_140 : j_D jm_Sd_go 140 (.iload 10) 2 142 := ⟨by decide +kernel, rfl⟩
theorem d_Sd_go_142 : j_D jm_Sd_go 142 (.invokeinterface 48 6) 5 147 := ⟨by decide +kernel, rfl⟩
theorem d_Sd_go_147 : j_D jm_Sd_go 147 .return_ 1 148 := ⟨by decide +kernel, rfl⟩
theorem d_Sd_go_148 : j_D jm_Sd_go 148 (.iload 7) 2 150 := ⟨by decide +kernel, rfl⟩
theorem d_Sd_go_150 : j_D jm_Sd_go 150 (.istore 11) 2 152 := ⟨by decide +kernel, rfl⟩
theorem d_Sd_go_152 : j_D jm_Sd_go 152 (.iload 11) 2 154 := ⟨by decide +kernel, rfl⟩
theorem d_Sd_go_154 : j_D jm_Sd_go 154 (.iload 9) 2 156 := ⟨by decide +kernel, rfl⟩
theorem d_Sd_go_156 : j_E jm_Sd_go 156 (.if_icmp .ge) 58 159 214 := ⟨by decide +kernel, rfl, by decide⟩
theorem d_Sd_go_159 : j_D jm_Sd_go 159 (.aload_n 1) 1 160 := ⟨by decide +kernel, rfl⟩
theorem d_Sd_go_160 : j_D jm_Sd_go 160 (.getfield 41) 3 163 := ⟨by decide +kernel, rfl⟩
theorem d_Sd_go_163 : j_D jm_Sd_go 163 (.iload 11) 2 165 := ⟨by decide +kernel, rfl⟩
theorem d_Sd_go_165 : j_D jm_Sd_go 165 .baload 1 166 := ⟨by decide +kernel, rfl⟩
theorem d_Sd_go_166 : j_E jm_Sd_go 166 (.ifCond .lt) 42 169 208 := ⟨by decide +kernel, rfl, by decide⟩
theorem d_Sd_go_169 : j_D jm_Sd_go 169 (.aload_n 0) 1 170 := ⟨by decide +kernel, rfl⟩
theorem d_Sd_go_170 : j_D jm_Sd_go 170 (.aload_n 1) 1 171 := ⟨by decide +kernel, rfl⟩
theorem d_Sd_go_171 : j_D jm_Sd_go 171 (.iload 7) 2 173 := ⟨by decide +kernel, rfl⟩
theorem d_Sd_go_173 : j_D jm_Sd_go 173 (.iload 11) 2 175 := ⟨by decide +kernel, rfl⟩
theorem d_Sd_go_175 : j_D jm_Sd_go 175 (.iload 8) 2 177 := ⟨by decide +kernel, rfl⟩
theorem d_Sd_go_177 : j_D jm_Sd_go 177 (.aload_n 1) 1 178 := ⟨by decide +kernel, rfl⟩
theorem d_Sd_go_178 : j_D jm_Sd_go 178 (.getfield 41) 3 181 := ⟨by decide +kernel, rfl⟩
theorem d_Sd_go_181 : j_D jm_Sd_go 181 (.iload 11) 2 183 := ⟨by decide +kernel, rfl⟩
theorem d_Sd_go_183 : j_D jm_Sd_go 183 .baload 1 184 := ⟨by decide +kernel, rfl⟩
theorem d_Sd_go_184 : j_D jm_Sd_go 184 (.iload 6) 2 186 := ⟨by decide +kernel, rfl⟩
theorem d_Sd_go_186 : j_D jm_Sd_go 186 (.iconst 1) 1 187 := ⟨by decide +kernel, rfl⟩
theorem d_Sd_go_187 : j_D jm_Sd_go 187 .iadd 1 188 := ⟨by decide +kernel, rfl⟩
theorem d_Sd_go_188 : j_D jm_Sd_go 188 (.invokestatic 31) 3 191 := ⟨by decide +kernel, rfl⟩
theorem d_Sd_go_191 : j_D jm_Sd_go 191 (.iload 11) 2 193 := ⟨by decide +kernel, rfl⟩
theorem d_Sd_go_193 : j_D jm_Sd_go 193 (.iconst 1) 1 194 := ⟨by decide +kernel, rfl⟩
theorem d_Sd_go_194 : j_D jm_Sd_go 194 .iadd 1 195 := ⟨by decide +kernel, rfl⟩
theorem d_Sd_go_195 : j_D jm_Sd_go 195 (.istore 7) 2 197 := ⟨by decide +kernel, rfl⟩
theorem d_Sd_go_197 : j_D jm_Sd_go 197 (.aload_n 1) 1 198 := ⟨by decide +kernel, rfl⟩
theorem d_Sd_go_198 : j_D jm_Sd_go 198 (.getfield 41) 3 201 := ⟨by decide +kernel, rfl⟩
theorem d_Sd_go_201 : j_D jm_Sd_go 201 (.iload 11) 2 203 := ⟨by decide +kernel, rfl⟩
theorem d_Sd_go_203 : j_D jm_Sd_go 203 .baload 1 204 := ⟨by decide +kernel, rfl⟩
theorem d_Sd_go_204 : j_D jm_Sd_go 204 (.iconst 1) 1 205 := ⟨by decide +kernel, rfl⟩
theorem d_Sd_go_205 : j_D jm_Sd_go 205 .iadd 1 206 := ⟨by decide +kernel, rfl⟩
theorem d_Sd_go_206 : j_D jm_Sd_go 206 (.istore 8) 2 208 := ⟨by decide +kernel, rfl⟩
theorem d_Sd_go_208 : j_D jm_Sd_go 208 (.iinc 11 1) 3 211 := ⟨by decide +kernel, rfl⟩
theorem d_Sd_go_211 : j_E jm_Sd_go 211 .goto (-59) 214 152 := ⟨by decide +kernel, rfl, by decide⟩
theorem d_Sd_go_214 : j_D jm_Sd_go 214 (.aload_n 0) 1 215 := ⟨by decide +kernel, rfl⟩
theorem d_Sd_go_215 : j_D jm_Sd_go 215 (.aload_n 1) 1 216 := ⟨by decide +kernel, rfl⟩
theorem d_Sd_go_216 : j_D jm_Sd_go 216 (.iload 7) 2 218 := ⟨by decide +kernel, rfl⟩
theorem d_Sd_go_218 : j_D jm_Sd_go 218 (.iload 9) 2 220 := ⟨by decide +kernel, rfl⟩
theorem d_Sd_go_220 : j_D jm_Sd_go 220 (.iload 8) 2 222 := ⟨by decide +kernel, rfl⟩
theorem d_Sd_go_222 : j_D jm_Sd_go 222 (.iload 10) 2 224 := ⟨by decide +kernel, rfl⟩
theorem d_Sd_go_224 : j_D jm_Sd_go 224 (.iload 6) 2 226 := ⟨by decide +kernel, rfl⟩
theorem d_Sd_go_226 : j_D jm_Sd_go 226 (.iconst 1) 1 227 := ⟨by decide +kernel, rfl⟩
theorem d_Sd_go_227 : j_D jm_Sd_go 227 .iadd 1 228 := ⟨by decide +kernel, rfl⟩
theorem d_Sd_go_228 : j_D jm_Sd_go 228 (.invokestatic 31) 3 231 := ⟨by decide +kernel, rfl⟩
theorem d_Sd_go_231 : j_D jm_Sd_go 231 .return_ 1 232 := ⟨by decide +kernel, rfl⟩
theorem d_Sd_anchor_0 : j_D jm_Sd_anchor 0 (.iconst 0) 1 1 := ⟨by decide +kernel, rfl⟩
theorem d_Sd_anchor_1 : j_D jm_Sd_anchor 1 (.istore 6) 2 3 := ⟨by decide +kernel, rfl⟩
theorem d_Sd_anchor_3 : j_D jm_Sd_anchor 3 (.iload_n 2) 1 4 := ⟨by decide +kernel, rfl⟩
theorem d_Sd_anchor_4 : j_D jm_Sd_anchor 4 (.istore 7) 2 6 := ⟨by decide +kernel, rfl⟩
theorem d_Sd_anchor_6 : j_D jm_Sd_anchor 6 (.iload 7) 2 8 := ⟨by decide +kernel, rfl⟩
theorem d_Sd_anchor_8 : j_D jm_Sd_anchor 8 (.iload_n 3) 1 9 := ⟨by decide +kernel, rfl⟩
theorem d_Sd_anchor_9 : j_E jm_Sd_anchor 9 (.if_icmp .ge) 165 12 174 := ⟨by decide +kernel, rfl, by decide⟩
theorem d_Sd_anchor_12 : j_D jm_Sd_anchor 12 (.aload_n 1) 1 13 := ⟨by decide +kernel, rfl⟩
theorem d_Sd_anchor_13 : j_D jm_Sd_anchor 13 (.getfield 54) 3 16 := ⟨by decide +kernel, rfl⟩
theorem d_Sd_anchor_16 : j_D jm_Sd_anchor 16 (.getfield 25) 3 19 := ⟨by decide +kernel, rfl⟩
theorem d_Sd_anchor_19 : j_D jm_Sd_anchor 19 (.iload 7) 2 21 := ⟨by decide +kernel, rfl⟩
theorem d_Sd_anchor_21 : j_D jm_Sd_anchor 21 .baload 1 22 := ⟨by decide +kernel, rfl⟩
theorem d_Sd_anchor_22 : j_D jm_Sd_anchor 22 (.istore 8) 2 24 := ⟨by decide +kernel, rfl⟩
theorem d_Sd_anchor_24 : j_D jm_Sd_anchor 24 (.aload_n 1) 1 25 := ⟨by decide +kernel, rfl⟩
theorem d_Sd_anchor_25 : j_D jm_Sd_anchor 25 (.getfield 54) 3 28 := ⟨by decide +kernel, rfl⟩
theorem d_Sd_anchor_28 : j_D jm_Sd_anchor 28 (.iload_n 2) 1 29 := ⟨by decide +kernel, rfl⟩
theorem d_Sd_anchor_29 : j_D jm_Sd_anchor 29 (.iload_n 3) 1 30 := ⟨by decide +kernel, rfl⟩
theorem d_Sd_anchor_30 : j_D jm_Sd_anchor 30 (.iload 8) 2 32 := ⟨by decide +kernel, rfl⟩
theorem d_Sd_anchor_32 : j_D jm_Sd_anchor 32 (.invokestatic 58) 3 35 := ⟨by decide +kernel, rfl⟩
theorem d_Sd_anchor_35 : j_D jm_Sd_anchor 35 (.iload 7) 2 37 := ⟨by decide +kernel, rfl⟩
theorem d_Sd_anchor_37 : j_E jm_Sd_anchor 37 (.if_icmp .ne) 7 40 44 := ⟨by decide +kernel, rfl, by decide⟩
theorem d_Sd_anchor_40 : j_D jm_Sd_anchor 40 (.iconst 1) 1 41 := ⟨by decide +kernel, rfl⟩
theorem d_Sd_anchor_41 : j_E jm_Sd_anchor 41 .goto 4 44 45 := ⟨by decide +kernel, rfl, by decide⟩
theorem d_Sd_anchor_44 : j_D jm_Sd_anchor 44 (.iconst 0) 1 45 := ⟨by decide +kernel, rfl⟩
theorem d_Sd_anchor_45 : j_D jm_Sd_anchor 45 (.istore 9) 2 47 := ⟨by decide +kernel, rfl⟩
theorem d_Sd_anchor_47 : j_D jm_Sd_anchor 47 (.aload_n 0) 1 48 := ⟨by decide +kernel, rfl⟩
theorem d_Sd_anchor_48 : j_D jm_Sd_anchor 48 (.getfield 15) 3 51 := ⟨by decide +kernel, rfl⟩
theorem d_Sd_anchor_51 : j_D jm_Sd_anchor 51 (.iload 7) 2 53 := ⟨by decide +kernel, rfl⟩
theorem d_Sd_anchor_53 : j_D jm_Sd_anchor 53 (.iload 9) 2 55 := ⟨by decide +kernel, rfl⟩
theorem d_Sd_anchor_55 : j_E jm_Sd_anchor 55 (.ifCond .eq) 19 58 74 := ⟨by decide +kernel, rfl, by decide⟩
theorem d_Sd_anchor_58 : j_D jm_Sd_anchor 58 (.aload_n 1) 1 59 := ⟨by decide +kernel, rfl⟩
theorem d_Sd_anchor_59 : j_D jm_Sd_anchor 59 (.getfield 62) 3 62 := ⟨by decide +kernel, rfl⟩
theorem d_Sd_anchor_62 : j_D jm_Sd_anchor 62 (.iload 4) 2 64 := ⟨by decide +kernel, rfl⟩
theorem d_Sd_anchor_64 : j_D jm_Sd_anchor 64 (.iload 5) 2 66 := ⟨by decide +kernel, rfl⟩
theorem d_Sd_anchor_66 : j_D jm_Sd_anchor 66 (.iload 8) 2 68 := ⟨by decide +kernel, rfl⟩
theorem d_Sd_anchor_68 : j_D jm_Sd_anchor 68 (.invokestatic 58) 3 71 := ⟨by decide +kernel, rfl⟩
theorem d_Sd_anchor_71 : j_E jm_Sd_anchor 71 .goto 4 74 75 := ⟨by decide +kernel, rfl, by decide⟩
theorem d_Sd_anchor_74 : j_D jm_Sd_anchor 74 (.iconst (-1)) 1 75 := ⟨by decide +kernel, rfl⟩
theorem d_Sd_anchor_75 : j_D jm_Sd_anchor 75 .iastore 1 76 := ⟨by decide +kernel, rfl⟩
theorem d_Sd_anchor_76 : j_D jm_Sd_anchor 76 (.aload_n 0) 1 77 := ⟨by decide +kernel, rfl⟩
theorem d_Sd_anchor_77 : j_D jm_Sd_anchor 77 (.getfield 15) 3 80 := ⟨by decide +kernel, rfl⟩
theorem d_Sd_anchor_80 : j_D jm_Sd_anchor 80 (.iload 7) 2 82 := ⟨by decide +kernel, rfl⟩
theorem d_Sd_anchor_82 : j_D jm_Sd_anchor 82 .iaload 1 83 := ⟨by decide +kernel, rfl⟩
theorem d_Sd_anchor_83 : j_E jm_Sd_anchor 83 (.ifCond .lt) 85 86 168 := ⟨by decide +kernel, rfl, by decide⟩
theorem d_Sd_anchor_86 : j_D jm_Sd_anchor 86 (.iconst 1) 1 87 := ⟨by decide +kernel, rfl⟩
theorem d_Sd_anchor_87 : j_D jm_Sd_anchor 87 (.istore 10) 2 89 := ⟨by decide +kernel, rfl⟩
theorem d_Sd_anchor_89 : j_D jm_Sd_anchor 89 (.iload 10) 2 91 := ⟨by decide +kernel, rfl⟩
theorem d_Sd_anchor_91 : j_D jm_Sd_anchor 91 (.iload 6) 2 93 := ⟨by decide +kernel, rfl⟩
theorem d_Sd_anchor_93 : j_E jm_Sd_anchor 93 (.if_icmp .gt) 31 96 124 := ⟨by decide +kernel, rfl, by decide⟩
theorem d_Sd_anchor_96 : j_D jm_Sd_anchor 96 (.aload_n 0) 1 97 := ⟨by decide +kernel, rfl⟩
theorem d_Sd_anchor_97 : j_D jm_Sd_anchor 97 (.getfield 15) 3 100 := ⟨by decide +kernel, rfl⟩
theorem d_Sd_anchor_100 : j_D jm_Sd_anchor 100 (.aload_n 0) 1 101 := ⟨by decide +kernel, rfl⟩
theorem d_Sd_anchor_101 : j_D jm_Sd_anchor 101 (.getfield 9) 3 104 := ⟨by decide +kernel, rfl⟩
theorem d_Sd_anchor_104 : j_D jm_Sd_anchor 104 (.iload 10) 2 106 := ⟨by decide +kernel, rfl⟩
theorem d_Sd_anchor_106 : j_D jm_Sd_anchor 106 .iaload 1 107 := ⟨by decide +kernel, rfl⟩
theorem d_Sd_anchor_107 : j_D jm_Sd_anchor 107 .iaload 1 108 := ⟨by decide +kernel, rfl⟩
theorem d_Sd_anchor_108 : j_D jm_Sd_anchor 108 (.aload_n 0) 1 109 := ⟨by decide +kernel, rfl⟩
theorem d_Sd_anchor_109 : j_D jm_Sd_anchor 109 (.getfield 15) 3 112 := ⟨by decide +kernel, rfl⟩
theorem d_Sd_anchor_112 : j_D jm_Sd_anchor 112 (.iload 7) 2 114 := ⟨by decide +kernel, rfl⟩
theorem d_Sd_anchor_114 : j_D jm_Sd_anchor 114 .iaload 1 115 := ⟨by decide +kernel, rfl⟩
theorem d_Sd_anchor_115 : j_E jm_Sd_anchor 115 (.if_icmp .ge) 9 118 124 := ⟨by decide +kernel, rfl, by decide⟩
theorem d_Sd_anchor_118 : j_D jm_Sd_anchor 118 (.iinc 10 1) 3 121 := ⟨by decide +kernel, rfl⟩
theorem d_Sd_anchor_121 : j_E jm_Sd_anchor 121 .goto (-32) 124 89 := ⟨by decide +kernel, rfl, by decide⟩
theorem d_Sd_anchor_124 : j_D jm_Sd_anchor 124 (.iload 6) 2 126 := ⟨by decide +kernel, rfl⟩
theorem d_Sd_anchor_126 : j_D jm_Sd_anchor 126 (.iload 10) 2 128 := ⟨by decide +kernel, rfl⟩
theorem d_Sd_anchor_128 : j_D jm_Sd_anchor 128 (.invokestatic 65) 3 131 := ⟨by decide +kernel, rfl⟩
theorem d_Sd_anchor_131 : j_D jm_Sd_anchor 131 (.istore 6) 2 133 := ⟨by decide +kernel, rfl⟩
theorem d_Sd_anchor_133 : j_D jm_Sd_anchor 133 (.aload_n 0) 1 134 := ⟨by decide +kernel, rfl⟩
theorem d_Sd_anchor_134 : j_D jm_Sd_anchor 134 (.getfield 18) 3 137 := ⟨by decide +kernel, rfl⟩
theorem d_Sd_anchor_137 : j_D jm_Sd_anchor 137 (.iload 7) 2 139 := ⟨by decide +kernel, rfl⟩
theorem d_Sd_anchor_139 : j_D jm_Sd_anchor 139 (.iload 10) 2 141 := ⟨by decide +kernel, rfl⟩
theorem d_Sd_anchor_141 : j_D jm_Sd_anchor 141 (.iconst 1) 1 142 := ⟨by decide +kernel, rfl⟩
theorem d_Sd_anchor_142 : j_E jm_Sd_anchor 142 (.if_icmp .ne) 7 145 149 := ⟨by decide +kernel, rfl, by decide⟩
theorem d_Sd_anchor_145 : j_D jm_Sd_anchor 145 (.iconst (-1)) 1 146 := ⟨by decide +kernel, rfl⟩
theorem d_Sd_anchor_146 : j_E jm_Sd_anchor 146 .goto 12 149 158 := ⟨by decide +kernel, rfl, by decide⟩
theorem d_Sd_anchor_149 : j_D jm_Sd_anchor 149 (.aload_n 0) 1 150 := ⟨by decide +kernel, rfl⟩
theorem d_Sd_anchor_150 : j_D jm_Sd_anchor 150 (.getfield 9) 3 153 := ⟨by decide +kernel, rfl⟩
theorem d_Sd_anchor_153 : j_D jm_Sd_anchor 153 (.iload 10) 2 155 := ⟨by decide +kernel, rfl⟩
theorem d_Sd_anchor_155 : j_D jm_Sd_anchor 155 (.iconst 1) 1 156 := ⟨by decide +kernel, rfl⟩
theorem d_Sd_anchor_156 : j_D jm_Sd_anchor 156 .isub 1 157 := ⟨by decide +kernel, rfl⟩
theorem d_Sd_anchor_157 : j_D jm_Sd_anchor 157 .iaload 1 158 := ⟨by decide +kernel, rfl⟩
theorem d_Sd_anchor_158 : j_D jm_Sd_anchor 158 .iastore 1 159 := ⟨by decide +kernel, rfl⟩
theorem d_Sd_anchor_159 : j_D jm_Sd_anchor 159 (.aload_n 0) 1 160 := ⟨by decide +kernel, rfl⟩
theorem d_Sd_anchor_160 : j_D jm_Sd_anchor 160 (.getfield 9) 3 163 := ⟨by decide +kernel, rfl⟩
theorem d_Sd_anchor_163 : j_D jm_Sd_anchor 163 (.iload 10) 2 165 := ⟨by decide +kernel, rfl⟩
theorem d_Sd_anchor_165 : j_D jm_Sd_anchor 165 (.iload 7) 2 167 := ⟨by decide +kernel, rfl⟩
theorem d_Sd_anchor_167 : j_D jm_Sd_anchor 167 .iastore 1 168 := ⟨by decide +kernel, rfl⟩
theorem d_Sd_anchor_168 : j_D jm_Sd_anchor 168 (.iinc 7 1) 3 171 := ⟨by decide +kernel, rfl⟩
theorem d_Sd_anchor_171 : j_E jm_Sd_anchor 171 .goto (-165) 174 6 := ⟨by decide +kernel, rfl, by decide⟩
theorem d_Sd_anchor_174 : j_D jm_Sd_anchor 174 (.iload 6) 2 176 := ⟨by decide +kernel, rfl⟩
theorem d_Sd_anchor_176 : j_E jm_Sd_anchor 176 (.ifCond .ne) 7 179 183 := ⟨by decide +kernel, rfl, by decide⟩
theorem d_Sd_anchor_179 : j_D jm_Sd_anchor 179 (.iconst (-1)) 1 180 := ⟨by decide +kernel, rfl⟩
theorem d_Sd_anchor_180 : j_E jm_Sd_anchor 180 .goto 10 183 190 := ⟨by decide +kernel, rfl, by decide⟩
theorem d_Sd_anchor_183 : j_D jm_Sd_anchor 183 (.aload_n 0) 1 184 := ⟨by decide +kernel, rfl⟩
theorem d_Sd_anchor_184 : j_D jm_Sd_anchor 184 (.getfield 9) 3 187 := ⟨by decide +kernel, rfl⟩
theorem d_Sd_anchor_187 : j_D jm_Sd_anchor 187 (.iload 6) 2 189 := ⟨by decide +kernel, rfl⟩
theorem d_Sd_anchor_189 : j_D jm_Sd_anchor 189 .iaload 1 190 := ⟨by decide +kernel, rfl⟩
theorem d_Sd_anchor_190 : j_D jm_Sd_anchor 190 (.istore 7) 2 192 := ⟨by decide +kernel, rfl⟩
theorem d_Sd_anchor_192 : j_D jm_Sd_anchor 192 (.iload 7) 2 194 := ⟨by decide +kernel, rfl⟩
theorem d_Sd_anchor_194 : j_E jm_Sd_anchor 194 (.ifCond .lt) 30 197 224 := ⟨by decide +kernel, rfl, by decide⟩
theorem d_Sd_anchor_197 : j_D jm_Sd_anchor 197 (.aload_n 1) 1 198 := ⟨by decide +kernel, rfl⟩
theorem d_Sd_anchor_198 : j_D jm_Sd_anchor 198 (.getfield 41) 3 201 := ⟨by decide +kernel, rfl⟩
theorem d_Sd_anchor_201 : j_D jm_Sd_anchor 201 (.iload 7) 2 203 := ⟨by decide +kernel, rfl⟩
theorem d_Sd_anchor_203 : j_D jm_Sd_anchor 203 (.aload_n 0) 1 204 := ⟨by decide +kernel, rfl⟩
theorem d_Sd_anchor_204 : j_D jm_Sd_anchor 204 (.getfield 15) 3 207 := ⟨by decide +kernel, rfl⟩
theorem d_Sd_anchor_207 : j_D jm_Sd_anchor 207 (.iload 7) 2 209 := ⟨by decide +kernel, rfl⟩
theorem d_Sd_anchor_209 : j_D jm_Sd_anchor 209 .iaload 1 210 := ⟨by decide +kernel, rfl⟩
theorem d_Sd_anchor_210 : j_D jm_Sd_anchor 210 .i2b 1 211 := ⟨by decide +kernel, rfl⟩
theorem d_Sd_anchor_211 : j_D jm_Sd_anchor 211 .bastore 1 212 := ⟨by decide +kernel, rfl⟩
theorem d_Sd_anchor_212 : j_D jm_Sd_anchor 212 (.aload_n 0) 1 213 := ⟨by decide +kernel, rfl⟩
theorem d_Sd_anchor_213 : j_D jm_Sd_anchor 213 (.getfield 18) 3 216 := ⟨by decide +kernel, rfl⟩
theorem d_Sd_anchor_216 : j_D jm_Sd_anchor 216 (.iload 7) 2 218 := ⟨by decide +kernel, rfl⟩
theorem d_Sd_anchor_218 : j_D jm_Sd_anchor 218 .iaload 1 219 := ⟨by decide +kernel, rfl⟩
theorem d_Sd_anchor_219 : j_D jm_Sd_anchor 219 (.istore 7) 2 221 := ⟨by decide +kernel, rfl⟩
theorem d_Sd_anchor_221 : j_E jm_Sd_anchor 221 .goto (-29) 224 192 := ⟨by decide +kernel, rfl, by decide⟩
theorem d_Sd_anchor_224 : j_D jm_Sd_anchor 224 (.iload 6) 2 226 := ⟨by decide +kernel, rfl⟩
theorem d_Sd_anchor_226 : j_E jm_Sd_anchor 226 (.ifCond .le) 7 229 233 := ⟨by decide +kernel, rfl, by decide⟩
theorem d_Sd_anchor_229 : j_D jm_Sd_anchor 229 (.iconst 1) 1 230 := ⟨by decide +kernel, rfl⟩
theorem d_Sd_anchor_230 : j_E jm_Sd_anchor 230 .goto 4 233 234 := ⟨by decide +kernel, rfl, by decide⟩
theorem d_Sd_anchor_233 : j_D jm_Sd_anchor 233 (.iconst 0) 1 234 := ⟨by decide +kernel, rfl⟩
theorem d_Sd_anchor_234 : j_D jm_Sd_anchor 234 .ireturn 1 235 := ⟨by decide +kernel, rfl⟩
theorem f_Sd_25 : j_F "LinePatcher$Standing" 25 1 0 0 true := ⟨rfl, _, "LinePatcher$Text", rfl, by decide, rfl, Or.inr ⟨"LinePatcher", by decide +kernel⟩, Or.inl rfl⟩
theorem lc_Sd_go : j_Lc jm_Sd_go 7 := ⟨by decide +kernel, by decide +kernel, by decide, by decide +kernel, by decide⟩
theorem c_Sd_31 : j_Ls "LinePatcher$Standing" 31 jm_Sd_go 7 := ⟨Or.inl (by decide +kernel), by decide +kernel, rfl, lc_Sd_go⟩
theorem c_Sd_35 : j_Lv "LinePatcher$Standing" 35 2 jm_Pr_equal 2 := ⟨by decide +kernel, by decide +kernel, ⟨_, rfl, by decide +kernel⟩, lc_Pr_equal⟩
theorem f_Sd_41 : j_F "LinePatcher$Standing" 41 2 2 2 true := ⟨rfl, _, "LinePatcher$Pairing", rfl, by decide, rfl, Or.inr ⟨"LinePatcher", by decide +kernel⟩, Or.inl rfl⟩
theorem lc_Sd_anchor : j_Lc jm_Sd_anchor 5 := ⟨by decide +kernel, by decide +kernel, by decide, by decide +kernel, by decide⟩
theorem c_Sd_44 : j_Lv "LinePatcher$Standing" 44 4 jm_Sd_anchor 5 := ⟨by decide +kernel, by decide +kernel, ⟨_, rfl, by decide +kernel⟩, lc_Sd_anchor⟩
theorem f_Sd_21 : j_F "LinePatcher$Standing" 21 4 0 0 true := ⟨rfl, _, "LinePatcher$Standing", rfl, by decide, rfl, Or.inl (by decide +kernel), Or.inl rfl⟩
theorem f_Sd_54 : j_F "LinePatcher$Standing" 54 2 0 0 true := ⟨rfl, _, "LinePatcher$Pairing", rfl, by decide, rfl, Or.inr ⟨"LinePatcher", by decide +kernel⟩, Or.inl rfl⟩
theorem lc_Sd_once : j_Lc jm_Sd_once 4 := ⟨by decide +kernel, by decide +kernel, by decide, by decide +kernel, by decide⟩
theorem c_Sd_58 : j_Ls "LinePatcher$Standing" 58 jm_Sd_once 4 := ⟨Or.inl (by decide +kernel), by decide +kernel, rfl, lc_Sd_once⟩
theorem f_Sd_15 : j_F "LinePatcher$Standing" 15 4 2 2 true := ⟨rfl, _, "LinePatcher$Standing", rfl, by decide, rfl, Or.inl (by decide +kernel), Or.inl rfl⟩
theorem f_Sd_62 : j_F "LinePatcher$Standing" 62 2 1 1 true := ⟨rfl, _, "LinePatcher$Pairing", rfl, by decide, rfl, Or.inr ⟨"LinePatcher", by decide +kernel⟩, Or.inl rfl⟩
theorem f_Sd_9 : j_F "LinePatcher$Standing" 9 4 1 1 true := ⟨rfl, _, "LinePatcher$Standing", rfl, by decide, rfl, Or.inl (by decide +kernel), Or.inl rfl⟩
theorem c_Sd_65 : j_Ls "LinePatcher$Standing" 65 jm_Ma_max 2 := ⟨Or.inl (by decide +kernel), by decide +kernel, rfl, lc_Ma_max⟩
theorem f_Sd_18 : j_F "LinePatcher$Standing" 18 4 3 3 true := ⟨rfl, _, "LinePatcher$Standing", rfl, by decide, rfl, Or.inl (by decide +kernel), Or.inl rfl⟩
theorem s_Sd_once_0 {G : j_G} {d B S N : Nat} {K : Nat → Option (Nat × Nat)} {M : Nat → Int → Int} {g : Nat → Int → Option Nat} {Q : j_O → j_S → Prop} {a0 : Nat} {x1 x2 x3 : Int} {u4 u5 u6 : j_V}  (k1 : j_J G jm_Sd_once d B S 9 [jr_ a0, ji_ x1, ji_ x2, ji_ x3, ji_ (-1), ji_ 0, ji_ x1] [] (N, K, M, g) Q) : j_J G jm_Sd_once d B S 0 [jr_ a0, ji_ x1, ji_ x2, ji_ x3, u4, u5, u6] [] (N, K, M, g) Q :=
  j_iconst d_Sd_once_0 <| j_istore d_Sd_once_1 rfl rfl <| j_iconst d_Sd_once_3 <| j_istore d_Sd_once_4 rfl rfl <| j_iload_n d_Sd_once_6 rfl <| j_istore d_Sd_once_7 rfl rfl <| k1
theorem s_Sd_once_9 {G : j_G} {d B S N : Nat} {K : Nat → Option (Nat × Nat)} {M : Nat → Int → Int} {g : Nat → Int → Option Nat} {Q : j_O → j_S → Prop} {a0 : Nat} {x1 x2 x3 x4 x5 x6 : Int} (r1 : -2147483648 ≤ x6 ∧ x6 ≤ 2147483647 := by omega) (r2 : -2147483648 ≤ x2 ∧ x2 ≤ 2147483647 := by omega) (k1 : x2 ≤ x6 → j_J G jm_Sd_once d B S 62 [jr_ a0, ji_ x1, ji_ x2, ji_ x3, ji_ x4, ji_ x5, ji_ x6] [] (N, K, M, g) Q) (k2 : x6 < x2 → j_J G jm_Sd_once d B S 15 [jr_ a0, ji_ x1, ji_ x2, ji_ x3, ji_ x4, ji_ x5, ji_ x6] [] (N, K, M, g) Q) : j_J G jm_Sd_once d B S 9 [jr_ a0, ji_ x1, ji_ x2, ji_ x3, ji_ x4, ji_ x5, ji_ x6] [] (N, K, M, g) Q :=
  j_iload d_Sd_once_9 rfl <| j_iload_n d_Sd_once_11 rfl <| j_icmp_ge d_Sd_once_12 r1 r2 k1 k2
theorem s_Sd_once_15 {G : j_G} {d B S N : Nat} {K : Nat → Option (Nat × Nat)} {M : Nat → Int → Int} {g : Nat → Int → Option Nat} {Q : j_O → j_S → Prop} {a0 y1 n2 : Nat} {x1 x2 x3 x4 x5 x6 : Int} (hk1 : K a0 = some (0, 1)) (hg2 : g a0 0 = some y1) (hk2 : K y1 = some (2, n2)) (r3 : 0 ≤ x6 := by omega) (r3' : x6 < (n2 : Int) := by omega) (r4 : -2147483648 ≤ (M y1 x6) ∧ (M y1 x6) ≤ 2147483647 := by omega) (r5 : -2147483648 ≤ x3 ∧ x3 ≤ 2147483647 := by omega) (k1 : (M y1 x6) ≠ x3 → j_J G jm_Sd_once d B S 33 [jr_ a0, ji_ x1, ji_ x2, ji_ x3, ji_ x4, ji_ x5, ji_ x6] [ji_ 0, ji_ x5] (N, K, M, g) Q) (k2 : (M y1 x6) = x3 → j_J G jm_Sd_once d B S 33 [jr_ a0, ji_ x1, ji_ x2, ji_ x3, ji_ x4, ji_ x5, ji_ x6] [ji_ 1, ji_ x5] (N, K, M, g) Q) : j_J G jm_Sd_once d B S 15 [jr_ a0, ji_ x1, ji_ x2, ji_ x3, ji_ x4, ji_ x5, ji_ x6] [] (N, K, M, g) Q :=
  j_iload d_Sd_once_15 rfl <| j_aload_n d_Sd_once_17 rfl <| j_getR d_Sd_once_18 f_Sd_25 hk1 hg2 <| j_iload d_Sd_once_21 rfl <| j_bald d_Sd_once_23 hk2 r3 r3' <| j_iload_n d_Sd_once_24 rfl <| j_icmp_ne d_Sd_once_25 r4 r5 (fun h => j_iconst d_Sd_once_32 <| k1 h) (fun h => j_iconst d_Sd_once_28 <| j_goto d_Sd_once_29 <| k2 h)
theorem s_Sd_once_28 {G : j_G} {d B S N : Nat} {K : Nat → Option (Nat × Nat)} {M : Nat → Int → Int} {g : Nat → Int → Option Nat} {Q : j_O → j_S → Prop} {a0 : Nat} {x1 x2 x3 x4 x5 x6 t0 : Int}  (k1 : j_J G jm_Sd_once d B S 33 [jr_ a0, ji_ x1, ji_ x2, ji_ x3, ji_ x4, ji_ x5, ji_ x6] [ji_ 1, ji_ t0] (N, K, M, g) Q) : j_J G jm_Sd_once d B S 28 [jr_ a0, ji_ x1, ji_ x2, ji_ x3, ji_ x4, ji_ x5, ji_ x6] [ji_ t0] (N, K, M, g) Q :=
  j_iconst d_Sd_once_28 <| j_goto d_Sd_once_29 k1
theorem s_Sd_once_32 {G : j_G} {d B S N : Nat} {K : Nat → Option (Nat × Nat)} {M : Nat → Int → Int} {g : Nat → Int → Option Nat} {Q : j_O → j_S → Prop} {a0 : Nat} {x1 x2 x3 x4 x5 x6 t0 : Int}  (k1 : j_J G jm_Sd_once d B S 33 [jr_ a0, ji_ x1, ji_ x2, ji_ x3, ji_ x4, ji_ x5, ji_ x6] [ji_ 0, ji_ t0] (N, K, M, g) Q) : j_J G jm_Sd_once d B S 32 [jr_ a0, ji_ x1, ji_ x2, ji_ x3, ji_ x4, ji_ x5, ji_ x6] [ji_ t0] (N, K, M, g) Q :=
  j_iconst d_Sd_once_32 <| k1
theorem s_Sd_once_33 {G : j_G} {d B S N : Nat} {K : Nat → Option (Nat × Nat)} {M : Nat → Int → Int} {g : Nat → Int → Option Nat} {Q : j_O → j_S → Prop} {a0 y1 n2 : Nat} {x1 x2 x3 x4 x5 x6 t0 t1 : Int} (hk1 : K a0 = some (0, 1)) (hg2 : g a0 0 = some y1) (hk2 : K y1 = some (2, n2)) (r3 : 0 ≤ x6 := by omega) (r3' : x6 < (n2 : Int) := by omega) (r4 : -2147483648 ≤ (M y1 x6) ∧ (M y1 x6) ≤ 2147483647 := by omega) (r5 : -2147483648 ≤ x3 ∧ x3 ≤ 2147483647 := by omega) (k1 : (M y1 x6) ≠ x3 → j_J G jm_Sd_once d B S 9 [jr_ a0, ji_ x1, ji_ x2, ji_ x3, ji_ x4, ji_ (t0 + t1), ji_ (x6 + 1)] [] (N, K, M, g) Q) (k2 : (M y1 x6) = x3 → j_J G jm_Sd_once d B S 9 [jr_ a0, ji_ x1, ji_ x2, ji_ x3, ji_ x6, ji_ (t0 + t1), ji_ (x6 + 1)] [] (N, K, M, g) Q) : j_J G jm_Sd_once d B S 33 [jr_ a0, ji_ x1, ji_ x2, ji_ x3, ji_ x4, ji_ x5, ji_ x6] [ji_ t1, ji_ t0] (N, K, M, g) Q :=
  j_iadd d_Sd_once_33 <| j_istore d_Sd_once_34 rfl rfl <| j_aload_n d_Sd_once_36 rfl <| j_getR d_Sd_once_37 f_Sd_25 hk1 hg2 <| j_iload d_Sd_once_40 rfl <| j_bald d_Sd_once_42 hk2 r3 r3' <| j_iload_n d_Sd_once_43 rfl <| j_icmp_ne d_Sd_once_44 r4 r5 (fun h => j_iload d_Sd_once_52 rfl <| j_istore d_Sd_once_54 rfl rfl <| j_iinc d_Sd_once_56 rfl rfl rfl <| j_goto d_Sd_once_59 <| k1 h) (fun h => j_iload d_Sd_once_47 rfl <| j_goto d_Sd_once_49 <| j_istore d_Sd_once_54 rfl rfl <| j_iinc d_Sd_once_56 rfl rfl rfl <| j_goto d_Sd_once_59 <| k2 h)
theorem s_Sd_once_47 {G : j_G} {d B S N : Nat} {K : Nat → Option (Nat × Nat)} {M : Nat → Int → Int} {g : Nat → Int → Option Nat} {Q : j_O → j_S → Prop} {a0 : Nat} {x1 x2 x3 x4 x5 x6 : Int}  (k1 : j_J G jm_Sd_once d B S 9 [jr_ a0, ji_ x1, ji_ x2, ji_ x3, ji_ x6, ji_ x5, ji_ (x6 + 1)] [] (N, K, M, g) Q) : j_J G jm_Sd_once d B S 47 [jr_ a0, ji_ x1, ji_ x2, ji_ x3, ji_ x4, ji_ x5, ji_ x6] [] (N, K, M, g) Q :=
  j_iload d_Sd_once_47 rfl <| j_goto d_Sd_once_49 (j_istore d_Sd_once_54 rfl rfl <| j_iinc d_Sd_once_56 rfl rfl rfl <| j_goto d_Sd_once_59 <| k1)
theorem s_Sd_once_52 {G : j_G} {d B S N : Nat} {K : Nat → Option (Nat × Nat)} {M : Nat → Int → Int} {g : Nat → Int → Option Nat} {Q : j_O → j_S → Prop} {a0 : Nat} {x1 x2 x3 x4 x5 x6 : Int}  (k1 : j_J G jm_Sd_once d B S 9 [jr_ a0, ji_ x1, ji_ x2, ji_ x3, ji_ x4, ji_ x5, ji_ (x6 + 1)] [] (N, K, M, g) Q) : j_J G jm_Sd_once d B S 52 [jr_ a0, ji_ x1, ji_ x2, ji_ x3, ji_ x4, ji_ x5, ji_ x6] [] (N, K, M, g) Q :=
  j_iload d_Sd_once_52 rfl <| (j_istore d_Sd_once_54 rfl rfl <| j_iinc d_Sd_once_56 rfl rfl rfl <| j_goto d_Sd_once_59 <| k1)
theorem s_Sd_once_54 {G : j_G} {d B S N : Nat} {K : Nat → Option (Nat × Nat)} {M : Nat → Int → Int} {g : Nat → Int → Option Nat} {Q : j_O → j_S → Prop} {a0 : Nat} {x1 x2 x3 x4 x5 x6 t0 : Int}  (k1 : j_J G jm_Sd_once d B S 9 [jr_ a0, ji_ x1, ji_ x2, ji_ x3, ji_ t0, ji_ x5, ji_ (x6 + 1)] [] (N, K, M, g) Q) : j_J G jm_Sd_once d B S 54 [jr_ a0, ji_ x1, ji_ x2, ji_ x3, ji_ x4, ji_ x5, ji_ x6] [ji_ t0] (N, K, M, g) Q :=
  j_istore d_Sd_once_54 rfl rfl <| j_iinc d_Sd_once_56 rfl rfl rfl <| j_goto d_Sd_once_59 k1
theorem s_Sd_once_62 {G : j_G} {d B S N : Nat} {K : Nat → Option (Nat × Nat)} {M : Nat → Int → Int} {g : Nat → Int → Option Nat} {Q : j_O → j_S → Prop} {a0 : Nat} {x1 x2 x3 x4 x5 x6 : Int} (r1 : -2147483648 ≤ x5 ∧ x5 ≤ 2147483647 := by omega) (k1 : x5 ≠ 1 → Q (.inl (some (ji_ (-1)))) (N, K, M, g)) (k2 : x5 = 1 → Q (.inl (some (ji_ x4))) (N, K, M, g)) : j_J G jm_Sd_once d B S 62 [jr_ a0, ji_ x1, ji_ x2, ji_ x3, ji_ x4, ji_ x5, ji_ x6] [] (N, K, M, g) Q :=
  j_iload d_Sd_once_62 rfl <| j_iconst d_Sd_once_64 <| j_icmp_ne d_Sd_once_65 r1 (by decide) (fun h => j_iconst d_Sd_once_73 <| j_ireturn d_Sd_once_74 rfl <| k1 h) (fun h => j_iload d_Sd_once_68 rfl <| j_goto d_Sd_once_70 <| j_ireturn d_Sd_once_74 rfl <| k2 h)
theorem s_Sd_once_68 {G : j_G} {d B S N : Nat} {K : Nat → Option (Nat × Nat)} {M : Nat → Int → Int} {g : Nat → Int → Option Nat} {Q : j_O → j_S → Prop} {a0 : Nat} {x1 x2 x3 x4 x5 x6 : Int}  (k1 : Q (.inl (some (ji_ x4))) (N, K, M, g)) : j_J G jm_Sd_once d B S 68 [jr_ a0, ji_ x1, ji_ x2, ji_ x3, ji_ x4, ji_ x5, ji_ x6] [] (N, K, M, g) Q :=
  j_iload d_Sd_once_68 rfl <| j_goto d_Sd_once_70 (j_ireturn d_Sd_once_74 rfl <| k1)
theorem s_Sd_once_73 {G : j_G} {d B S N : Nat} {K : Nat → Option (Nat × Nat)} {M : Nat → Int → Int} {g : Nat → Int → Option Nat} {Q : j_O → j_S → Prop} {a0 : Nat} {x1 x2 x3 x4 x5 x6 : Int}  (k1 : Q (.inl (some (ji_ (-1)))) (N, K, M, g)) : j_J G jm_Sd_once d B S 73 [jr_ a0, ji_ x1, ji_ x2, ji_ x3, ji_ x4, ji_ x5, ji_ x6] [] (N, K, M, g) Q :=
  j_iconst d_Sd_once_73 <| (j_ireturn d_Sd_once_74 rfl <| k1)
theorem s_Sd_once_74 {G : j_G} {d B S N : Nat} {K : Nat → Option (Nat × Nat)} {M : Nat → Int → Int} {g : Nat → Int → Option Nat} {Q : j_O → j_S → Prop} {a0 : Nat} {x1 x2 x3 x4 x5 x6 t0 : Int}  (k1 : Q (.inl (some (ji_ t0))) (N, K, M, g)) : j_J G jm_Sd_once d B S 74 [jr_ a0, ji_ x1, ji_ x2, ji_ x3, ji_ x4, ji_ x5, ji_ x6] [ji_ t0] (N, K, M, g) Q :=
  j_ireturn d_Sd_once_74 rfl k1
theorem s_Sd_run_0 {G : j_G} {d B S N : Nat} {K : Nat → Option (Nat × Nat)} {M : Nat → Int → Int} {g : Nat → Int → Option Nat} {Q : j_O → j_S → Prop} {a0 a1 : Nat} {x2 x3 x4 x5 : Int} {q : (Nat → Int → Int) → Prop} (hC : j_Ct G jm_Sd_go d 0 0 [jr_ a0, jr_ a1, ji_ x2, ji_ x3, ji_ x4, ji_ x5, ji_ 0] (N, K, M, g) (j_pV N K g q)) (k1 : ∀ M', q M' → j_J G jm_Sd_run (d + 1) B S 12 [jr_ a0, jr_ a1, ji_ x2, ji_ x3, ji_ x4, ji_ x5] [] (N, K, M', g) Q) : j_J G jm_Sd_run (d + 1) B S 0 [jr_ a0, jr_ a1, ji_ x2, ji_ x3, ji_ x4, ji_ x5] [] (N, K, M, g) Q :=
  j_aload_n d_Sd_run_0 rfl <| j_aload_n d_Sd_run_1 rfl <| j_iload_n d_Sd_run_2 rfl <| j_iload_n d_Sd_run_3 rfl <| j_iload d_Sd_run_4 rfl <| j_iload d_Sd_run_6 rfl <| j_iconst d_Sd_run_8 <| j_aSV (as := [jr_ a0, jr_ a1, ji_ x2, ji_ x3, ji_ x4, ji_ x5, ji_ 0]) (rest := []) d_Sd_run_9 c_Sd_31 rfl (Nat.le_of_ble_eq_true rfl) hC k1
theorem s_Sd_run_12 {G : j_G} {d B S N : Nat} {K : Nat → Option (Nat × Nat)} {M : Nat → Int → Int} {g : Nat → Int → Option Nat} {Q : j_O → j_S → Prop} {a0 a1 : Nat} {x2 x3 x4 x5 : Int}  (k1 : Q (.inl none) (N, K, M, g)) : j_J G jm_Sd_run d B S 12 [jr_ a0, jr_ a1, ji_ x2, ji_ x3, ji_ x4, ji_ x5] [] (N, K, M, g) Q :=
  j_vreturn d_Sd_run_12 rfl k1
theorem s_Sd_go_0 {G : j_G} {d B S N : Nat} {K : Nat → Option (Nat × Nat)} {M : Nat → Int → Int} {g : Nat → Int → Option Nat} {Q : j_O → j_S → Prop} {a0 a1 : Nat} {x2 x3 x4 x5 x6 : Int} {u7 u8 u9 u10 u11 : j_V}  (k1 : j_J G jm_Sd_go d B S 14 [jr_ a0, jr_ a1, ji_ x2, ji_ x3, ji_ x4, ji_ x5, ji_ x6, ji_ x2, ji_ x4, ji_ x3, ji_ x5, u11] [] (N, K, M, g) Q) : j_J G jm_Sd_go d B S 0 [jr_ a0, jr_ a1, ji_ x2, ji_ x3, ji_ x4, ji_ x5, ji_ x6, u7, u8, u9, u10, u11] [] (N, K, M, g) Q :=
  j_iload_n d_Sd_go_0 rfl <| j_istore d_Sd_go_1 rfl rfl <| j_iload d_Sd_go_3 rfl <| j_istore d_Sd_go_5 rfl rfl <| j_iload_n d_Sd_go_7 rfl <| j_istore d_Sd_go_8 rfl rfl <| j_iload d_Sd_go_10 rfl <| j_istore d_Sd_go_12 rfl rfl <| k1
theorem s_Sd_go_14 {G : j_G} {d B S N : Nat} {K : Nat → Option (Nat × Nat)} {M : Nat → Int → Int} {g : Nat → Int → Option Nat} {Q : j_O → j_S → Prop} {a0 a1 : Nat} {x2 x3 x4 x5 x6 x7 x8 x9 x10 : Int} {u11 : j_V} (r1 : -2147483648 ≤ x7 ∧ x7 ≤ 2147483647 := by omega) (r2 : -2147483648 ≤ x9 ∧ x9 ≤ 2147483647 := by omega) (k1 : x9 ≤ x7 → j_J G jm_Sd_go d B S 58 [jr_ a0, jr_ a1, ji_ x2, ji_ x3, ji_ x4, ji_ x5, ji_ x6, ji_ x7, ji_ x8, ji_ x9, ji_ x10, u11] [] (N, K, M, g) Q) (k2 : x7 < x9 → j_J G jm_Sd_go d B S 21 [jr_ a0, jr_ a1, ji_ x2, ji_ x3, ji_ x4, ji_ x5, ji_ x6, ji_ x7, ji_ x8, ji_ x9, ji_ x10, u11] [] (N, K, M, g) Q) : j_J G jm_Sd_go d B S 14 [jr_ a0, jr_ a1, ji_ x2, ji_ x3, ji_ x4, ji_ x5, ji_ x6, ji_ x7, ji_ x8, ji_ x9, ji_ x10, u11] [] (N, K, M, g) Q :=
  j_iload d_Sd_go_14 rfl <| j_iload d_Sd_go_16 rfl <| j_icmp_ge d_Sd_go_18 r1 r2 k1 k2
theorem s_Sd_go_21 {G : j_G} {d B S N : Nat} {K : Nat → Option (Nat × Nat)} {M : Nat → Int → Int} {g : Nat → Int → Option Nat} {Q : j_O → j_S → Prop} {a0 a1 : Nat} {x2 x3 x4 x5 x6 x7 x8 x9 x10 : Int} {u11 : j_V} (r1 : -2147483648 ≤ x8 ∧ x8 ≤ 2147483647 := by omega) (r2 : -2147483648 ≤ x10 ∧ x10 ≤ 2147483647 := by omega) (k1 : x10 ≤ x8 → j_J G jm_Sd_go d B S 58 [jr_ a0, jr_ a1, ji_ x2, ji_ x3, ji_ x4, ji_ x5, ji_ x6, ji_ x7, ji_ x8, ji_ x9, ji_ x10, u11] [] (N, K, M, g) Q) (k2 : x8 < x10 → j_J G jm_Sd_go d B S 28 [jr_ a0, jr_ a1, ji_ x2, ji_ x3, ji_ x4, ji_ x5, ji_ x6, ji_ x7, ji_ x8, ji_ x9, ji_ x10, u11] [] (N, K, M, g) Q) : j_J G jm_Sd_go d B S 21 [jr_ a0, jr_ a1, ji_ x2, ji_ x3, ji_ x4, ji_ x5, ji_ x6, ji_ x7, ji_ x8, ji_ x9, ji_ x10, u11] [] (N, K, M, g) Q :=
  j_iload d_Sd_go_21 rfl <| j_iload d_Sd_go_23 rfl <| j_icmp_ge d_Sd_go_25 r1 r2 k1 k2
theorem s_Sd_go_28 {G : j_G} {d B S N : Nat} {K : Nat → Option (Nat × Nat)} {M : Nat → Int → Int} {g : Nat → Int → Option Nat} {Q : j_O → j_S → Prop} {a0 a1 : Nat} {x2 x3 x4 x5 x6 x7 x8 x9 x10 : Int} {u11 : j_V} {q : Int → (Nat → Int → Int) → Prop} (hk1 : K a1 = some (0, 2)) (hC : j_Ct G jm_Pr_equal d 0 0 [jr_ a1, ji_ x7, ji_ x8] (N, K, M, g) (j_pI N K g q)) (k1 : ∀ z M', q z M' → j_J G jm_Sd_go (d + 1) B S 36 [jr_ a0, jr_ a1, ji_ x2, ji_ x3, ji_ x4, ji_ x5, ji_ x6, ji_ x7, ji_ x8, ji_ x9, ji_ x10, u11] [ji_ z] (N, K, M', g) Q) : j_J G jm_Sd_go (d + 1) B S 28 [jr_ a0, jr_ a1, ji_ x2, ji_ x3, ji_ x4, ji_ x5, ji_ x6, ji_ x7, ji_ x8, ji_ x9, ji_ x10, u11] [] (N, K, M, g) Q :=
  j_aload_n d_Sd_go_28 rfl <| j_iload d_Sd_go_29 rfl <| j_iload d_Sd_go_31 rfl <| j_aVI (as := [ji_ x7, ji_ x8]) (rest := []) d_Sd_go_33 c_Sd_35 hk1 rfl (Nat.le_of_ble_eq_true rfl) hC k1
theorem s_Sd_go_36 {G : j_G} {d B S N : Nat} {K : Nat → Option (Nat × Nat)} {M : Nat → Int → Int} {g : Nat → Int → Option Nat} {Q : j_O → j_S → Prop} {a0 a1 : Nat} {x2 x3 x4 x5 x6 x7 x8 x9 x10 t0 : Int} {u11 : j_V} (r1 : -2147483648 ≤ t0 ∧ t0 ≤ 2147483647 := by omega) (k1 : t0 = 0 → j_J G jm_Sd_go d B S 58 [jr_ a0, jr_ a1, ji_ x2, ji_ x3, ji_ x4, ji_ x5, ji_ x6, ji_ x7, ji_ x8, ji_ x9, ji_ x10, u11] [] (N, K, M, g) Q) (k2 : t0 ≠ 0 → j_J G jm_Sd_go d B S 39 [jr_ a0, jr_ a1, ji_ x2, ji_ x3, ji_ x4, ji_ x5, ji_ x6, ji_ x7, ji_ x8, ji_ x9, ji_ x10, u11] [] (N, K, M, g) Q) : j_J G jm_Sd_go d B S 36 [jr_ a0, jr_ a1, ji_ x2, ji_ x3, ji_ x4, ji_ x5, ji_ x6, ji_ x7, ji_ x8, ji_ x9, ji_ x10, u11] [ji_ t0] (N, K, M, g) Q :=
  j_if_eq d_Sd_go_36 r1 k1 k2
theorem s_Sd_go_39 {G : j_G} {d B S N : Nat} {K : Nat → Option (Nat × Nat)} {M : Nat → Int → Int} {g : Nat → Int → Option Nat} {Q : j_O → j_S → Prop} {a0 a1 y1 n2 : Nat} {x2 x3 x4 x5 x6 x7 x8 x9 x10 : Int} {u11 : j_V} (hk1 : K a1 = some (0, 2)) (hg2 : g a1 2 = some y1) (hk2 : K y1 = some (2, n2)) (r3 : 0 ≤ x7 := by omega) (r3' : x7 < (n2 : Int) := by omega) (r4 : -128 ≤ (Int.bmod x8 256) ∧ (Int.bmod x8 256) ≤ 127 := by omega) (k1 : j_J G jm_Sd_go d B S 14 [jr_ a0, jr_ a1, ji_ x2, ji_ x3, ji_ x4, ji_ x5, ji_ x6, ji_ (x7 + 1), ji_ (x8 + 1), ji_ x9, ji_ x10, u11] [] (N, K, (j_up M y1 x7 (Int.bmod x8 256)), g) Q) : j_J G jm_Sd_go d B S 39 [jr_ a0, jr_ a1, ji_ x2, ji_ x3, ji_ x4, ji_ x5, ji_ x6, ji_ x7, ji_ x8, ji_ x9, ji_ x10, u11] [] (N, K, M, g) Q :=
  j_aload_n d_Sd_go_39 rfl <| j_getR d_Sd_go_40 f_Sd_41 hk1 hg2 <| j_iload d_Sd_go_43 rfl <| j_iload d_Sd_go_45 rfl <| j_i2b d_Sd_go_47 <| j_bast d_Sd_go_48 hk2 r3 r3' r4 <| j_iinc d_Sd_go_49 rfl rfl rfl <| j_iinc d_Sd_go_52 rfl rfl rfl <| j_goto d_Sd_go_55 k1
theorem s_Sd_go_58 {G : j_G} {d B S N : Nat} {K : Nat → Option (Nat × Nat)} {M : Nat → Int → Int} {g : Nat → Int → Option Nat} {Q : j_O → j_S → Prop} {a0 a1 : Nat} {x2 x3 x4 x5 x6 x7 x8 x9 x10 : Int} {u11 : j_V} (r1 : -2147483648 ≤ x7 ∧ x7 ≤ 2147483647 := by omega) (r2 : -2147483648 ≤ x9 ∧ x9 ≤ 2147483647 := by omega) (k1 : x9 ≤ x7 → j_J G jm_Sd_go d B S 106 [jr_ a0, jr_ a1, ji_ x2, ji_ x3, ji_ x4, ji_ x5, ji_ x6, ji_ x7, ji_ x8, ji_ x9, ji_ x10, u11] [] (N, K, M, g) Q) (k2 : x7 < x9 → j_J G jm_Sd_go d B S 65 [jr_ a0, jr_ a1, ji_ x2, ji_ x3, ji_ x4, ji_ x5, ji_ x6, ji_ x7, ji_ x8, ji_ x9, ji_ x10, u11] [] (N, K, M, g) Q) : j_J G jm_Sd_go d B S 58 [jr_ a0, jr_ a1, ji_ x2, ji_ x3, ji_ x4, ji_ x5, ji_ x6, ji_ x7, ji_ x8, ji_ x9, ji_ x10, u11] [] (N, K, M, g) Q :=
  j_iload d_Sd_go_58 rfl <| j_iload d_Sd_go_60 rfl <| j_icmp_ge d_Sd_go_62 r1 r2 k1 k2
theorem s_Sd_go_65 {G : j_G} {d B S N : Nat} {K : Nat → Option (Nat × Nat)} {M : Nat → Int → Int} {g : Nat → Int → Option Nat} {Q : j_O → j_S → Prop} {a0 a1 : Nat} {x2 x3 x4 x5 x6 x7 x8 x9 x10 : Int} {u11 : j_V} (r1 : -2147483648 ≤ x8 ∧ x8 ≤ 2147483647 := by omega) (r2 : -2147483648 ≤ x10 ∧ x10 ≤ 2147483647 := by omega) (k1 : x10 ≤ x8 → j_J G jm_Sd_go d B S 106 [jr_ a0, jr_ a1, ji_ x2, ji_ x3, ji_ x4, ji_ x5, ji_ x6, ji_ x7, ji_ x8, ji_ x9, ji_ x10, u11] [] (N, K, M, g) Q) (k2 : x8 < x10 → j_J G jm_Sd_go d B S 72 [jr_ a0, jr_ a1, ji_ x2, ji_ x3, ji_ x4, ji_ x5, ji_ x6, ji_ x7, ji_ x8, ji_ x9, ji_ x10, u11] [] (N, K, M, g) Q) : j_J G jm_Sd_go d B S 65 [jr_ a0, jr_ a1, ji_ x2, ji_ x3, ji_ x4, ji_ x5, ji_ x6, ji_ x7, ji_ x8, ji_ x9, ji_ x10, u11] [] (N, K, M, g) Q :=
  j_iload d_Sd_go_65 rfl <| j_iload d_Sd_go_67 rfl <| j_icmp_ge d_Sd_go_69 r1 r2 k1 k2
theorem s_Sd_go_72 {G : j_G} {d B S N : Nat} {K : Nat → Option (Nat × Nat)} {M : Nat → Int → Int} {g : Nat → Int → Option Nat} {Q : j_O → j_S → Prop} {a0 a1 : Nat} {x2 x3 x4 x5 x6 x7 x8 x9 x10 : Int} {u11 : j_V} {q : Int → (Nat → Int → Int) → Prop} (hk1 : K a1 = some (0, 2)) (hC : j_Ct G jm_Pr_equal d 0 0 [jr_ a1, ji_ (x9 - 1), ji_ (x10 - 1)] (N, K, M, g) (j_pI N K g q)) (k1 : ∀ z M', q z M' → j_J G jm_Sd_go (d + 1) B S 84 [jr_ a0, jr_ a1, ji_ x2, ji_ x3, ji_ x4, ji_ x5, ji_ x6, ji_ x7, ji_ x8, ji_ x9, ji_ x10, u11] [ji_ z] (N, K, M', g) Q) : j_J G jm_Sd_go (d + 1) B S 72 [jr_ a0, jr_ a1, ji_ x2, ji_ x3, ji_ x4, ji_ x5, ji_ x6, ji_ x7, ji_ x8, ji_ x9, ji_ x10, u11] [] (N, K, M, g) Q :=
  j_aload_n d_Sd_go_72 rfl <| j_iload d_Sd_go_73 rfl <| j_iconst d_Sd_go_75 <| j_isub d_Sd_go_76 <| j_iload d_Sd_go_77 rfl <| j_iconst d_Sd_go_79 <| j_isub d_Sd_go_80 <| j_aVI (as := [ji_ (x9 - 1), ji_ (x10 - 1)]) (rest := []) d_Sd_go_81 c_Sd_35 hk1 rfl (Nat.le_of_ble_eq_true rfl) hC k1
theorem s_Sd_go_84 {G : j_G} {d B S N : Nat} {K : Nat → Option (Nat × Nat)} {M : Nat → Int → Int} {g : Nat → Int → Option Nat} {Q : j_O → j_S → Prop} {a0 a1 : Nat} {x2 x3 x4 x5 x6 x7 x8 x9 x10 t0 : Int} {u11 : j_V} (r1 : -2147483648 ≤ t0 ∧ t0 ≤ 2147483647 := by omega) (k1 : t0 = 0 → j_J G jm_Sd_go d B S 106 [jr_ a0, jr_ a1, ji_ x2, ji_ x3, ji_ x4, ji_ x5, ji_ x6, ji_ x7, ji_ x8, ji_ x9, ji_ x10, u11] [] (N, K, M, g) Q) (k2 : t0 ≠ 0 → j_J G jm_Sd_go d B S 87 [jr_ a0, jr_ a1, ji_ x2, ji_ x3, ji_ x4, ji_ x5, ji_ x6, ji_ x7, ji_ x8, ji_ x9, ji_ x10, u11] [] (N, K, M, g) Q) : j_J G jm_Sd_go d B S 84 [jr_ a0, jr_ a1, ji_ x2, ji_ x3, ji_ x4, ji_ x5, ji_ x6, ji_ x7, ji_ x8, ji_ x9, ji_ x10, u11] [ji_ t0] (N, K, M, g) Q :=
  j_if_eq d_Sd_go_84 r1 k1 k2
theorem s_Sd_go_87 {G : j_G} {d B S N : Nat} {K : Nat → Option (Nat × Nat)} {M : Nat → Int → Int} {g : Nat → Int → Option Nat} {Q : j_O → j_S → Prop} {a0 a1 y1 n2 : Nat} {x2 x3 x4 x5 x6 x7 x8 x9 x10 : Int} {u11 : j_V} (hk1 : K a1 = some (0, 2)) (hg2 : g a1 2 = some y1) (hk2 : K y1 = some (2, n2)) (r3 : 0 ≤ (x9 + (-1)) := by omega) (r3' : (x9 + (-1)) < (n2 : Int) := by omega) (r4 : -128 ≤ (Int.bmod (x10 + (-1)) 256) ∧ (Int.bmod (x10 + (-1)) 256) ≤ 127 := by omega) (k1 : j_J G jm_Sd_go d B S 58 [jr_ a0, jr_ a1, ji_ x2, ji_ x3, ji_ x4, ji_ x5, ji_ x6, ji_ x7, ji_ x8, ji_ (x9 + (-1)), ji_ (x10 + (-1)), u11] [] (N, K, (j_up M y1 (x9 + (-1)) (Int.bmod (x10 + (-1)) 256)), g) Q) : j_J G jm_Sd_go d B S 87 [jr_ a0, jr_ a1, ji_ x2, ji_ x3, ji_ x4, ji_ x5, ji_ x6, ji_ x7, ji_ x8, ji_ x9, ji_ x10, u11] [] (N, K, M, g) Q :=
  j_iinc d_Sd_go_87 rfl rfl rfl <| j_iinc d_Sd_go_90 rfl rfl rfl <| j_aload_n d_Sd_go_93 rfl <| j_getR d_Sd_go_94 f_Sd_41 hk1 hg2 <| j_iload d_Sd_go_97 rfl <| j_iload d_Sd_go_99 rfl <| j_i2b d_Sd_go_101 <| j_bast d_Sd_go_102 hk2 r3 r3' r4 <| j_goto d_Sd_go_103 k1
theorem s_Sd_go_106 {G : j_G} {d B S N : Nat} {K : Nat → Option (Nat × Nat)} {M : Nat → Int → Int} {g : Nat → Int → Option Nat} {Q : j_O → j_S → Prop} {a0 a1 : Nat} {x2 x3 x4 x5 x6 x7 x8 x9 x10 : Int} {u11 : j_V} (r1 : -2147483648 ≤ x6 ∧ x6 ≤ 2147483647 := by omega) (k1 : 30 < x6 → j_J G jm_Sd_go d B S 129 [jr_ a0, jr_ a1, ji_ x2, ji_ x3, ji_ x4, ji_ x5, ji_ x6, ji_ x7, ji_ x8, ji_ x9, ji_ x10, u11] [] (N, K, M, g) Q) (k2 : x6 ≤ 30 → j_J G jm_Sd_go d B S 113 [jr_ a0, jr_ a1, ji_ x2, ji_ x3, ji_ x4, ji_ x5, ji_ x6, ji_ x7, ji_ x8, ji_ x9, ji_ x10, u11] [] (N, K, M, g) Q) : j_J G jm_Sd_go d B S 106 [jr_ a0, jr_ a1, ji_ x2, ji_ x3, ji_ x4, ji_ x5, ji_ x6, ji_ x7, ji_ x8, ji_ x9, ji_ x10, u11] [] (N, K, M, g) Q :=
  j_iload d_Sd_go_106 rfl <| j_bipush d_Sd_go_108 (by decide) <| j_icmp_gt d_Sd_go_110 r1 (by decide) k1 k2
theorem s_Sd_go_113 {G : j_G} {d B S N : Nat} {K : Nat → Option (Nat × Nat)} {M : Nat → Int → Int} {g : Nat → Int → Option Nat} {Q : j_O → j_S → Prop} {a0 a1 : Nat} {x2 x3 x4 x5 x6 x7 x8 x9 x10 : Int} {u11 : j_V} {q : Int → (Nat → Int → Int) → Prop} (hk1 : K a0 = some (0, 4)) (hC : j_Ct G jm_Sd_anchor d 0 0 [jr_ a0, jr_ a1, ji_ x7, ji_ x9, ji_ x8, ji_ x10] (N, K, M, g) (j_pI N K g q)) (k1 : ∀ z M', q z M' → j_J G jm_Sd_go (d + 1) B S 126 [jr_ a0, jr_ a1, ji_ x2, ji_ x3, ji_ x4, ji_ x5, ji_ x6, ji_ x7, ji_ x8, ji_ x9, ji_ x10, u11] [ji_ z] (N, K, M', g) Q) : j_J G jm_Sd_go (d + 1) B S 113 [jr_ a0, jr_ a1, ji_ x2, ji_ x3, ji_ x4, ji_ x5, ji_ x6, ji_ x7, ji_ x8, ji_ x9, ji_ x10, u11] [] (N, K, M, g) Q :=
  j_aload_n d_Sd_go_113 rfl <| j_aload_n d_Sd_go_114 rfl <| j_iload d_Sd_go_115 rfl <| j_iload d_Sd_go_117 rfl <| j_iload d_Sd_go_119 rfl <| j_iload d_Sd_go_121 rfl <| j_aVI (as := [jr_ a1, ji_ x7, ji_ x9, ji_ x8, ji_ x10]) (rest := []) d_Sd_go_123 c_Sd_44 hk1 rfl (Nat.le_of_ble_eq_true rfl) hC k1
theorem s_Sd_go_126 {G : j_G} {d B S N : Nat} {K : Nat → Option (Nat × Nat)} {M : Nat → Int → Int} {g : Nat → Int → Option Nat} {Q : j_O → j_S → Prop} {a0 a1 : Nat} {x2 x3 x4 x5 x6 x7 x8 x9 x10 t0 : Int} {u11 : j_V} (r1 : -2147483648 ≤ t0 ∧ t0 ≤ 2147483647 := by omega) (k1 : t0 ≠ 0 → j_J G jm_Sd_go d B S 152 [jr_ a0, jr_ a1, ji_ x2, ji_ x3, ji_ x4, ji_ x5, ji_ x6, ji_ x7, ji_ x8, ji_ x9, ji_ x10, ji_ x7] [] (N, K, M, g) Q) (k2 : t0 = 0 → j_J G jm_Sd_go d B S 129 [jr_ a0, jr_ a1, ji_ x2, ji_ x3, ji_ x4, ji_ x5, ji_ x6, ji_ x7, ji_ x8, ji_ x9, ji_ x10, u11] [] (N, K, M, g) Q) : j_J G jm_Sd_go d B S 126 [jr_ a0, jr_ a1, ji_ x2, ji_ x3, ji_ x4, ji_ x5, ji_ x6, ji_ x7, ji_ x8, ji_ x9, ji_ x10, u11] [ji_ t0] (N, K, M, g) Q :=
  j_if_ne d_Sd_go_126 r1 (fun h => j_iload d_Sd_go_148 rfl <| j_istore d_Sd_go_150 rfl rfl <| k1 h) k2
theorem s_Sd_go_129 {G : j_G} {d B S N : Nat} {K : Nat → Option (Nat × Nat)} {M : Nat → Int → Int} {g : Nat → Int → Option Nat} {Q : j_O → j_S → Prop} {a0 a1 y1 ci3 : Nat} {x2 x3 x4 x5 x6 x7 x8 x9 x10 : Int} {u11 : j_V} {q : (Nat → Int → Int) → Prop} {y' : j_Mt} (hk1 : K a0 = some (0, 4)) (hg2 : g a0 0 = some y1) (hk4 : K y1 = some (0, ci3)) (hf5 : j_Lf "LinePatcher$Standing" 48 ci3 ⟨"LinePatcher$Way", "run", "(LLinePatcher$Pairing;IIII)V"⟩ y' 5) (hC : j_Ct G y' d 0 0 [jr_ y1, jr_ a1, ji_ x7, ji_ x9, ji_ x8, ji_ x10] (N, K, M, g) (j_pV N K g q)) (k1 : ∀ M', q M' → j_J G jm_Sd_go (d + 1) B S 147 [jr_ a0, jr_ a1, ji_ x2, ji_ x3, ji_ x4, ji_ x5, ji_ x6, ji_ x7, ji_ x8, ji_ x9, ji_ x10, u11] [] (N, K, M', g) Q) : j_J G jm_Sd_go (d + 1) B S 129 [jr_ a0, jr_ a1, ji_ x2, ji_ x3, ji_ x4, ji_ x5, ji_ x6, ji_ x7, ji_ x8, ji_ x9, ji_ x10, u11] [] (N, K, M, g) Q :=
  j_aload_n d_Sd_go_129 rfl <| j_getR d_Sd_go_130 f_Sd_21 hk1 hg2 <| j_aload_n d_Sd_go_133 rfl <| j_iload d_Sd_go_134 rfl <| j_iload d_Sd_go_136 rfl <| j_iload d_Sd_go_138 rfl <| j_iload d_Sd_go_140 rfl <| j_aF (as := [jr_ a1, ji_ x7, ji_ x9, ji_ x8, ji_ x10]) (rest := []) d_Sd_go_142 hf5 hk4 rfl (Nat.le_of_ble_eq_true rfl) hC k1
theorem s_Sd_go_147 {G : j_G} {d B S N : Nat} {K : Nat → Option (Nat × Nat)} {M : Nat → Int → Int} {g : Nat → Int → Option Nat} {Q : j_O → j_S → Prop} {a0 a1 : Nat} {x2 x3 x4 x5 x6 x7 x8 x9 x10 : Int} {u11 : j_V}  (k1 : Q (.inl none) (N, K, M, g)) : j_J G jm_Sd_go d B S 147 [jr_ a0, jr_ a1, ji_ x2, ji_ x3, ji_ x4, ji_ x5, ji_ x6, ji_ x7, ji_ x8, ji_ x9, ji_ x10, u11] [] (N, K, M, g) Q :=
  j_vreturn d_Sd_go_147 rfl k1
theorem s_Sd_go_148 {G : j_G} {d B S N : Nat} {K : Nat → Option (Nat × Nat)} {M : Nat → Int → Int} {g : Nat → Int → Option Nat} {Q : j_O → j_S → Prop} {a0 a1 : Nat} {x2 x3 x4 x5 x6 x7 x8 x9 x10 : Int} {u11 : j_V}  (k1 : j_J G jm_Sd_go d B S 152 [jr_ a0, jr_ a1, ji_ x2, ji_ x3, ji_ x4, ji_ x5, ji_ x6, ji_ x7, ji_ x8, ji_ x9, ji_ x10, ji_ x7] [] (N, K, M, g) Q) : j_J G jm_Sd_go d B S 148 [jr_ a0, jr_ a1, ji_ x2, ji_ x3, ji_ x4, ji_ x5, ji_ x6, ji_ x7, ji_ x8, ji_ x9, ji_ x10, u11] [] (N, K, M, g) Q :=
  j_iload d_Sd_go_148 rfl <| j_istore d_Sd_go_150 rfl rfl <| k1
theorem s_Sd_go_152 {G : j_G} {d B S N : Nat} {K : Nat → Option (Nat × Nat)} {M : Nat → Int → Int} {g : Nat → Int → Option Nat} {Q : j_O → j_S → Prop} {a0 a1 : Nat} {x2 x3 x4 x5 x6 x7 x8 x9 x10 x11 : Int} (r1 : -2147483648 ≤ x11 ∧ x11 ≤ 2147483647 := by omega) (r2 : -2147483648 ≤ x9 ∧ x9 ≤ 2147483647 := by omega) (k1 : x9 ≤ x11 → j_J G jm_Sd_go d B S 214 [jr_ a0, jr_ a1, ji_ x2, ji_ x3, ji_ x4, ji_ x5, ji_ x6, ji_ x7, ji_ x8, ji_ x9, ji_ x10, ji_ x11] [] (N, K, M, g) Q) (k2 : x11 < x9 → j_J G jm_Sd_go d B S 159 [jr_ a0, jr_ a1, ji_ x2, ji_ x3, ji_ x4, ji_ x5, ji_ x6, ji_ x7, ji_ x8, ji_ x9, ji_ x10, ji_ x11] [] (N, K, M, g) Q) : j_J G jm_Sd_go d B S 152 [jr_ a0, jr_ a1, ji_ x2, ji_ x3, ji_ x4, ji_ x5, ji_ x6, ji_ x7, ji_ x8, ji_ x9, ji_ x10, ji_ x11] [] (N, K, M, g) Q :=
  j_iload d_Sd_go_152 rfl <| j_iload d_Sd_go_154 rfl <| j_icmp_ge d_Sd_go_156 r1 r2 k1 k2
theorem s_Sd_go_159 {G : j_G} {d B S N : Nat} {K : Nat → Option (Nat × Nat)} {M : Nat → Int → Int} {g : Nat → Int → Option Nat} {Q : j_O → j_S → Prop} {a0 a1 y1 n2 : Nat} {x2 x3 x4 x5 x6 x7 x8 x9 x10 x11 : Int} (hk1 : K a1 = some (0, 2)) (hg2 : g a1 2 = some y1) (hk2 : K y1 = some (2, n2)) (r3 : 0 ≤ x11 := by omega) (r3' : x11 < (n2 : Int) := by omega) (r4 : -2147483648 ≤ (M y1 x11) ∧ (M y1 x11) ≤ 2147483647 := by omega) (k1 : (M y1 x11) < 0 → j_J G jm_Sd_go d B S 152 [jr_ a0, jr_ a1, ji_ x2, ji_ x3, ji_ x4, ji_ x5, ji_ x6, ji_ x7, ji_ x8, ji_ x9, ji_ x10, ji_ (x11 + 1)] [] (N, K, M, g) Q) (k2 : 0 ≤ (M y1 x11) → j_J G jm_Sd_go d B S 169 [jr_ a0, jr_ a1, ji_ x2, ji_ x3, ji_ x4, ji_ x5, ji_ x6, ji_ x7, ji_ x8, ji_ x9, ji_ x10, ji_ x11] [] (N, K, M, g) Q) : j_J G jm_Sd_go d B S 159 [jr_ a0, jr_ a1, ji_ x2, ji_ x3, ji_ x4, ji_ x5, ji_ x6, ji_ x7, ji_ x8, ji_ x9, ji_ x10, ji_ x11] [] (N, K, M, g) Q :=
  j_aload_n d_Sd_go_159 rfl <| j_getR d_Sd_go_160 f_Sd_41 hk1 hg2 <| j_iload d_Sd_go_163 rfl <| j_bald d_Sd_go_165 hk2 r3 r3' <| j_if_lt d_Sd_go_166 r4 (fun h => j_iinc d_Sd_go_208 rfl rfl rfl <| j_goto d_Sd_go_211 <| k1 h) k2
theorem s_Sd_go_169 {G : j_G} {d B S N : Nat} {K : Nat → Option (Nat × Nat)} {M : Nat → Int → Int} {g : Nat → Int → Option Nat} {Q : j_O → j_S → Prop} {a0 a1 y1 n2 : Nat} {x2 x3 x4 x5 x6 x7 x8 x9 x10 x11 : Int} {q : (Nat → Int → Int) → Prop} (hk1 : K a1 = some (0, 2)) (hg2 : g a1 2 = some y1) (hk2 : K y1 = some (2, n2)) (r3 : 0 ≤ x11 := by omega) (r3' : x11 < (n2 : Int) := by omega) (hC : j_Ct G jm_Sd_go d 0 0 [jr_ a0, jr_ a1, ji_ x7, ji_ x11, ji_ x8, ji_ (M y1 x11), ji_ (x6 + 1)] (N, K, M, g) (j_pV N K g q)) (k1 : ∀ M', q M' → j_J G jm_Sd_go (d + 1) B S 191 [jr_ a0, jr_ a1, ji_ x2, ji_ x3, ji_ x4, ji_ x5, ji_ x6, ji_ x7, ji_ x8, ji_ x9, ji_ x10, ji_ x11] [] (N, K, M', g) Q) : j_J G jm_Sd_go (d + 1) B S 169 [jr_ a0, jr_ a1, ji_ x2, ji_ x3, ji_ x4, ji_ x5, ji_ x6, ji_ x7, ji_ x8, ji_ x9, ji_ x10, ji_ x11] [] (N, K, M, g) Q :=
  j_aload_n d_Sd_go_169 rfl <| j_aload_n d_Sd_go_170 rfl <| j_iload d_Sd_go_171 rfl <| j_iload d_Sd_go_173 rfl <| j_iload d_Sd_go_175 rfl <| j_aload_n d_Sd_go_177 rfl <| j_getR d_Sd_go_178 f_Sd_41 hk1 hg2 <| j_iload d_Sd_go_181 rfl <| j_bald d_Sd_go_183 hk2 r3 r3' <| j_iload d_Sd_go_184 rfl <| j_iconst d_Sd_go_186 <| j_iadd d_Sd_go_187 <| j_aSV (as := [jr_ a0, jr_ a1, ji_ x7, ji_ x11, ji_ x8, ji_ (M y1 x11), ji_ (x6 + 1)]) (rest := []) d_Sd_go_188 c_Sd_31 rfl (Nat.le_of_ble_eq_true rfl) hC k1
theorem s_Sd_go_191 {G : j_G} {d B S N : Nat} {K : Nat → Option (Nat × Nat)} {M : Nat → Int → Int} {g : Nat → Int → Option Nat} {Q : j_O → j_S → Prop} {a0 a1 y1 n2 : Nat} {x2 x3 x4 x5 x6 x7 x8 x9 x10 x11 : Int} (hk1 : K a1 = some (0, 2)) (hg2 : g a1 2 = some y1) (hk2 : K y1 = some (2, n2)) (r3 : 0 ≤ x11 := by omega) (r3' : x11 < (n2 : Int) := by omega) (k1 : j_J G jm_Sd_go d B S 152 [jr_ a0, jr_ a1, ji_ x2, ji_ x3, ji_ x4, ji_ x5, ji_ x6, ji_ (x11 + 1), ji_ ((M y1 x11) + 1), ji_ x9, ji_ x10, ji_ (x11 + 1)] [] (N, K, M, g) Q) : j_J G jm_Sd_go d B S 191 [jr_ a0, jr_ a1, ji_ x2, ji_ x3, ji_ x4, ji_ x5, ji_ x6, ji_ x7, ji_ x8, ji_ x9, ji_ x10, ji_ x11] [] (N, K, M, g) Q :=
  j_iload d_Sd_go_191 rfl <| j_iconst d_Sd_go_193 <| j_iadd d_Sd_go_194 <| j_istore d_Sd_go_195 rfl rfl <| j_aload_n d_Sd_go_197 rfl <| j_getR d_Sd_go_198 f_Sd_41 hk1 hg2 <| j_iload d_Sd_go_201 rfl <| j_bald d_Sd_go_203 hk2 r3 r3' <| j_iconst d_Sd_go_204 <| j_iadd d_Sd_go_205 <| j_istore d_Sd_go_206 rfl rfl <| (j_iinc d_Sd_go_208 rfl rfl rfl <| j_goto d_Sd_go_211 <| k1)
theorem s_Sd_go_208 {G : j_G} {d B S N : Nat} {K : Nat → Option (Nat × Nat)} {M : Nat → Int → Int} {g : Nat → Int → Option Nat} {Q : j_O → j_S → Prop} {a0 a1 : Nat} {x2 x3 x4 x5 x6 x7 x8 x9 x10 x11 : Int}  (k1 : j_J G jm_Sd_go d B S 152 [jr_ a0, jr_ a1, ji_ x2, ji_ x3, ji_ x4, ji_ x5, ji_ x6, ji_ x7, ji_ x8, ji_ x9, ji_ x10, ji_ (x11 + 1)] [] (N, K, M, g) Q) : j_J G jm_Sd_go d B S 208 [jr_ a0, jr_ a1, ji_ x2, ji_ x3, ji_ x4, ji_ x5, ji_ x6, ji_ x7, ji_ x8, ji_ x9, ji_ x10, ji_ x11] [] (N, K, M, g) Q :=
  j_iinc d_Sd_go_208 rfl rfl rfl <| j_goto d_Sd_go_211 k1
theorem s_Sd_go_214 {G : j_G} {d B S N : Nat} {K : Nat → Option (Nat × Nat)} {M : Nat → Int → Int} {g : Nat → Int → Option Nat} {Q : j_O → j_S → Prop} {a0 a1 : Nat} {x2 x3 x4 x5 x6 x7 x8 x9 x10 x11 : Int} {q : (Nat → Int → Int) → Prop} (hC : j_Ct G jm_Sd_go d 0 0 [jr_ a0, jr_ a1, ji_ x7, ji_ x9, ji_ x8, ji_ x10, ji_ (x6 + 1)] (N, K, M, g) (j_pV N K g q)) (k1 : ∀ M', q M' → j_J G jm_Sd_go (d + 1) B S 231 [jr_ a0, jr_ a1, ji_ x2, ji_ x3, ji_ x4, ji_ x5, ji_ x6, ji_ x7, ji_ x8, ji_ x9, ji_ x10, ji_ x11] [] (N, K, M', g) Q) : j_J G jm_Sd_go (d + 1) B S 214 [jr_ a0, jr_ a1, ji_ x2, ji_ x3, ji_ x4, ji_ x5, ji_ x6, ji_ x7, ji_ x8, ji_ x9, ji_ x10, ji_ x11] [] (N, K, M, g) Q :=
  j_aload_n d_Sd_go_214 rfl <| j_aload_n d_Sd_go_215 rfl <| j_iload d_Sd_go_216 rfl <| j_iload d_Sd_go_218 rfl <| j_iload d_Sd_go_220 rfl <| j_iload d_Sd_go_222 rfl <| j_iload d_Sd_go_224 rfl <| j_iconst d_Sd_go_226 <| j_iadd d_Sd_go_227 <| j_aSV (as := [jr_ a0, jr_ a1, ji_ x7, ji_ x9, ji_ x8, ji_ x10, ji_ (x6 + 1)]) (rest := []) d_Sd_go_228 c_Sd_31 rfl (Nat.le_of_ble_eq_true rfl) hC k1
theorem s_Sd_go_231 {G : j_G} {d B S N : Nat} {K : Nat → Option (Nat × Nat)} {M : Nat → Int → Int} {g : Nat → Int → Option Nat} {Q : j_O → j_S → Prop} {a0 a1 : Nat} {x2 x3 x4 x5 x6 x7 x8 x9 x10 x11 : Int}  (k1 : Q (.inl none) (N, K, M, g)) : j_J G jm_Sd_go d B S 231 [jr_ a0, jr_ a1, ji_ x2, ji_ x3, ji_ x4, ji_ x5, ji_ x6, ji_ x7, ji_ x8, ji_ x9, ji_ x10, ji_ x11] [] (N, K, M, g) Q :=
  j_vreturn d_Sd_go_231 rfl k1
theorem s_Sd_anchor_0 {G : j_G} {d B S N : Nat} {K : Nat → Option (Nat × Nat)} {M : Nat → Int → Int} {g : Nat → Int → Option Nat} {Q : j_O → j_S → Prop} {a0 a1 : Nat} {x2 x3 x4 x5 : Int} {u6 u7 u8 u9 u10 : j_V}  (k1 : j_J G jm_Sd_anchor d B S 6 [jr_ a0, jr_ a1, ji_ x2, ji_ x3, ji_ x4, ji_ x5, ji_ 0, ji_ x2, u8, u9, u10] [] (N, K, M, g) Q) : j_J G jm_Sd_anchor d B S 0 [jr_ a0, jr_ a1, ji_ x2, ji_ x3, ji_ x4, ji_ x5, u6, u7, u8, u9, u10] [] (N, K, M, g) Q :=
  j_iconst d_Sd_anchor_0 <| j_istore d_Sd_anchor_1 rfl rfl <| j_iload_n d_Sd_anchor_3 rfl <| j_istore d_Sd_anchor_4 rfl rfl <| k1
theorem s_Sd_anchor_6 {G : j_G} {d B S N : Nat} {K : Nat → Option (Nat × Nat)} {M : Nat → Int → Int} {g : Nat → Int → Option Nat} {Q : j_O → j_S → Prop} {a0 a1 : Nat} {x2 x3 x4 x5 x6 x7 : Int} {u8 u9 u10 : j_V} (r1 : -2147483648 ≤ x7 ∧ x7 ≤ 2147483647 := by omega) (r2 : -2147483648 ≤ x3 ∧ x3 ≤ 2147483647 := by omega) (k1 : x3 ≤ x7 → j_J G jm_Sd_anchor d B S 174 [jr_ a0, jr_ a1, ji_ x2, ji_ x3, ji_ x4, ji_ x5, ji_ x6, ji_ x7, u8, u9, u10] [] (N, K, M, g) Q) (k2 : x7 < x3 → j_J G jm_Sd_anchor d B S 12 [jr_ a0, jr_ a1, ji_ x2, ji_ x3, ji_ x4, ji_ x5, ji_ x6, ji_ x7, u8, u9, u10] [] (N, K, M, g) Q) : j_J G jm_Sd_anchor d B S 6 [jr_ a0, jr_ a1, ji_ x2, ji_ x3, ji_ x4, ji_ x5, ji_ x6, ji_ x7, u8, u9, u10] [] (N, K, M, g) Q :=
  j_iload d_Sd_anchor_6 rfl <| j_iload_n d_Sd_anchor_8 rfl <| j_icmp_ge d_Sd_anchor_9 r1 r2 k1 k2
theorem s_Sd_anchor_12 {G : j_G} {d B S N : Nat} {K : Nat → Option (Nat × Nat)} {M : Nat → Int → Int} {g : Nat → Int → Option Nat} {Q : j_O → j_S → Prop} {a0 a1 y1 y3 n3 : Nat} {x2 x3 x4 x5 x6 x7 : Int} {u8 u9 u10 : j_V} {q : Int → (Nat → Int → Int) → Prop} (hk1 : K a1 = some (0, 2)) (hg2 : g a1 0 = some y1) (hk2 : K y1 = some (0, 1)) (hg4 : g y1 0 = some y3) (hk3 : K y3 = some (2, n3)) (r5 : 0 ≤ x7 := by omega) (r5' : x7 < (n3 : Int) := by omega) (hC : j_Ct G jm_Sd_once d 0 0 [jr_ y1, ji_ x2, ji_ x3, ji_ (M y3 x7)] (N, K, M, g) (j_pI N K g q)) (k1 : ∀ z M', q z M' → j_J G jm_Sd_anchor (d + 1) B S 35 [jr_ a0, jr_ a1, ji_ x2, ji_ x3, ji_ x4, ji_ x5, ji_ x6, ji_ x7, ji_ (M y3 x7), u9, u10] [ji_ z] (N, K, M', g) Q) : j_J G jm_Sd_anchor (d + 1) B S 12 [jr_ a0, jr_ a1, ji_ x2, ji_ x3, ji_ x4, ji_ x5, ji_ x6, ji_ x7, u8, u9, u10] [] (N, K, M, g) Q :=
  j_aload_n d_Sd_anchor_12 rfl <| j_getR d_Sd_anchor_13 f_Sd_54 hk1 hg2 <| j_getR d_Sd_anchor_16 f_Sd_25 hk2 hg4 <| j_iload d_Sd_anchor_19 rfl <| j_bald d_Sd_anchor_21 hk3 r5 r5' <| j_istore d_Sd_anchor_22 rfl rfl <| j_aload_n d_Sd_anchor_24 rfl <| j_getR d_Sd_anchor_25 f_Sd_54 hk1 hg2 <| j_iload_n d_Sd_anchor_28 rfl <| j_iload_n d_Sd_anchor_29 rfl <| j_iload d_Sd_anchor_30 rfl <| j_aSI (as := [jr_ y1, ji_ x2, ji_ x3, ji_ (M y3 x7)]) (rest := []) d_Sd_anchor_32 c_Sd_58 rfl (Nat.le_of_ble_eq_true rfl) hC k1
theorem s_Sd_anchor_35 {G : j_G} {d B S N : Nat} {K : Nat → Option (Nat × Nat)} {M : Nat → Int → Int} {g : Nat → Int → Option Nat} {Q : j_O → j_S → Prop} {a0 a1 : Nat} {x2 x3 x4 x5 x6 x7 x8 t0 : Int} {u9 u10 : j_V} (r1 : -2147483648 ≤ t0 ∧ t0 ≤ 2147483647 := by omega) (r2 : -2147483648 ≤ x7 ∧ x7 ≤ 2147483647 := by omega) (k1 : t0 ≠ x7 → j_J G jm_Sd_anchor d B S 45 [jr_ a0, jr_ a1, ji_ x2, ji_ x3, ji_ x4, ji_ x5, ji_ x6, ji_ x7, ji_ x8, u9, u10] [ji_ 0] (N, K, M, g) Q) (k2 : t0 = x7 → j_J G jm_Sd_anchor d B S 45 [jr_ a0, jr_ a1, ji_ x2, ji_ x3, ji_ x4, ji_ x5, ji_ x6, ji_ x7, ji_ x8, u9, u10] [ji_ 1] (N, K, M, g) Q) : j_J G jm_Sd_anchor d B S 35 [jr_ a0, jr_ a1, ji_ x2, ji_ x3, ji_ x4, ji_ x5, ji_ x6, ji_ x7, ji_ x8, u9, u10] [ji_ t0] (N, K, M, g) Q :=
  j_iload d_Sd_anchor_35 rfl <| j_icmp_ne d_Sd_anchor_37 r1 r2 (fun h => j_iconst d_Sd_anchor_44 <| k1 h) (fun h => j_iconst d_Sd_anchor_40 <| j_goto d_Sd_anchor_41 <| k2 h)
theorem s_Sd_anchor_40 {G : j_G} {d B S N : Nat} {K : Nat → Option (Nat × Nat)} {M : Nat → Int → Int} {g : Nat → Int → Option Nat} {Q : j_O → j_S → Prop} {a0 a1 : Nat} {x2 x3 x4 x5 x6 x7 x8 : Int} {u9 u10 : j_V}  (k1 : j_J G jm_Sd_anchor d B S 45 [jr_ a0, jr_ a1, ji_ x2, ji_ x3, ji_ x4, ji_ x5, ji_ x6, ji_ x7, ji_ x8, u9, u10] [ji_ 1] (N, K, M, g) Q) : j_J G jm_Sd_anchor d B S 40 [jr_ a0, jr_ a1, ji_ x2, ji_ x3, ji_ x4, ji_ x5, ji_ x6, ji_ x7, ji_ x8, u9, u10] [] (N, K, M, g) Q :=
  j_iconst d_Sd_anchor_40 <| j_goto d_Sd_anchor_41 k1
theorem s_Sd_anchor_44 {G : j_G} {d B S N : Nat} {K : Nat → Option (Nat × Nat)} {M : Nat → Int → Int} {g : Nat → Int → Option Nat} {Q : j_O → j_S → Prop} {a0 a1 : Nat} {x2 x3 x4 x5 x6 x7 x8 : Int} {u9 u10 : j_V}  (k1 : j_J G jm_Sd_anchor d B S 45 [jr_ a0, jr_ a1, ji_ x2, ji_ x3, ji_ x4, ji_ x5, ji_ x6, ji_ x7, ji_ x8, u9, u10] [ji_ 0] (N, K, M, g) Q) : j_J G jm_Sd_anchor d B S 44 [jr_ a0, jr_ a1, ji_ x2, ji_ x3, ji_ x4, ji_ x5, ji_ x6, ji_ x7, ji_ x8, u9, u10] [] (N, K, M, g) Q :=
  j_iconst d_Sd_anchor_44 <| k1
theorem s_Sd_anchor_45 {G : j_G} {d B S N : Nat} {K : Nat → Option (Nat × Nat)} {M : Nat → Int → Int} {g : Nat → Int → Option Nat} {Q : j_O → j_S → Prop} {a0 a1 y1 : Nat} {x2 x3 x4 x5 x6 x7 x8 t0 : Int} {u9 u10 : j_V} (hk1 : K a0 = some (0, 4)) (hg2 : g a0 2 = some y1) (r3 : -2147483648 ≤ t0 ∧ t0 ≤ 2147483647 := by omega) (k1 : t0 = 0 → j_J G jm_Sd_anchor d B S 75 [jr_ a0, jr_ a1, ji_ x2, ji_ x3, ji_ x4, ji_ x5, ji_ x6, ji_ x7, ji_ x8, ji_ t0, u10] [ji_ (-1), ji_ x7, jr_ y1] (N, K, M, g) Q) (k2 : t0 ≠ 0 → j_J G jm_Sd_anchor d B S 58 [jr_ a0, jr_ a1, ji_ x2, ji_ x3, ji_ x4, ji_ x5, ji_ x6, ji_ x7, ji_ x8, ji_ t0, u10] [ji_ x7, jr_ y1] (N, K, M, g) Q) : j_J G jm_Sd_anchor d B S 45 [jr_ a0, jr_ a1, ji_ x2, ji_ x3, ji_ x4, ji_ x5, ji_ x6, ji_ x7, ji_ x8, u9, u10] [ji_ t0] (N, K, M, g) Q :=
  j_istore d_Sd_anchor_45 rfl rfl <| j_aload_n d_Sd_anchor_47 rfl <| j_getR d_Sd_anchor_48 f_Sd_15 hk1 hg2 <| j_iload d_Sd_anchor_51 rfl <| j_iload d_Sd_anchor_53 rfl <| j_if_eq d_Sd_anchor_55 r3 (fun h => j_iconst d_Sd_anchor_74 <| k1 h) k2
theorem s_Sd_anchor_58 {G : j_G} {d B S N : Nat} {K : Nat → Option (Nat × Nat)} {M : Nat → Int → Int} {g : Nat → Int → Option Nat} {Q : j_O → j_S → Prop} {a0 a1 b0 y1 : Nat} {x2 x3 x4 x5 x6 x7 x8 x9 t1 : Int} {u10 : j_V} {q : Int → (Nat → Int → Int) → Prop} (hk1 : K a1 = some (0, 2)) (hg2 : g a1 1 = some y1) (hC : j_Ct G jm_Sd_once d 0 0 [jr_ y1, ji_ x4, ji_ x5, ji_ x8] (N, K, M, g) (j_pI N K g q)) (k1 : ∀ z M', q z M' → j_J G jm_Sd_anchor (d + 1) B S 71 [jr_ a0, jr_ a1, ji_ x2, ji_ x3, ji_ x4, ji_ x5, ji_ x6, ji_ x7, ji_ x8, ji_ x9, u10] [ji_ z, ji_ t1, jr_ b0] (N, K, M', g) Q) : j_J G jm_Sd_anchor (d + 1) B S 58 [jr_ a0, jr_ a1, ji_ x2, ji_ x3, ji_ x4, ji_ x5, ji_ x6, ji_ x7, ji_ x8, ji_ x9, u10] [ji_ t1, jr_ b0] (N, K, M, g) Q :=
  j_aload_n d_Sd_anchor_58 rfl <| j_getR d_Sd_anchor_59 f_Sd_62 hk1 hg2 <| j_iload d_Sd_anchor_62 rfl <| j_iload d_Sd_anchor_64 rfl <| j_iload d_Sd_anchor_66 rfl <| j_aSI (as := [jr_ y1, ji_ x4, ji_ x5, ji_ x8]) (rest := [ji_ t1, jr_ b0]) d_Sd_anchor_68 c_Sd_58 rfl (Nat.le_of_ble_eq_true rfl) hC k1
theorem s_Sd_anchor_71 {G : j_G} {d B S N : Nat} {K : Nat → Option (Nat × Nat)} {M : Nat → Int → Int} {g : Nat → Int → Option Nat} {Q : j_O → j_S → Prop} {a0 a1 b0 : Nat} {x2 x3 x4 x5 x6 x7 x8 x9 t1 t2 : Int} {u10 : j_V}  (k1 : j_J G jm_Sd_anchor d B S 75 [jr_ a0, jr_ a1, ji_ x2, ji_ x3, ji_ x4, ji_ x5, ji_ x6, ji_ x7, ji_ x8, ji_ x9, u10] [ji_ t2, ji_ t1, jr_ b0] (N, K, M, g) Q) : j_J G jm_Sd_anchor d B S 71 [jr_ a0, jr_ a1, ji_ x2, ji_ x3, ji_ x4, ji_ x5, ji_ x6, ji_ x7, ji_ x8, ji_ x9, u10] [ji_ t2, ji_ t1, jr_ b0] (N, K, M, g) Q :=
  j_goto d_Sd_anchor_71 k1
theorem s_Sd_anchor_74 {G : j_G} {d B S N : Nat} {K : Nat → Option (Nat × Nat)} {M : Nat → Int → Int} {g : Nat → Int → Option Nat} {Q : j_O → j_S → Prop} {a0 a1 b0 : Nat} {x2 x3 x4 x5 x6 x7 x8 x9 t1 : Int} {u10 : j_V}  (k1 : j_J G jm_Sd_anchor d B S 75 [jr_ a0, jr_ a1, ji_ x2, ji_ x3, ji_ x4, ji_ x5, ji_ x6, ji_ x7, ji_ x8, ji_ x9, u10] [ji_ (-1), ji_ t1, jr_ b0] (N, K, M, g) Q) : j_J G jm_Sd_anchor d B S 74 [jr_ a0, jr_ a1, ji_ x2, ji_ x3, ji_ x4, ji_ x5, ji_ x6, ji_ x7, ji_ x8, ji_ x9, u10] [ji_ t1, jr_ b0] (N, K, M, g) Q :=
  j_iconst d_Sd_anchor_74 <| k1
theorem s_Sd_anchor_75 {G : j_G} {d B S N : Nat} {K : Nat → Option (Nat × Nat)} {M : Nat → Int → Int} {g : Nat → Int → Option Nat} {Q : j_O → j_S → Prop} {a0 a1 b0 n1 y2 n3 : Nat} {x2 x3 x4 x5 x6 x7 x8 x9 t1 t2 : Int} {u10 : j_V} (hk1 : K b0 = some (1, n1)) (r1 : 0 ≤ t1 := by omega) (r1' : t1 < (n1 : Int) := by omega) (hk2 : K a0 = some (0, 4)) (hg3 : g a0 2 = some y2) (hk3 : K y2 = some (1, n3)) (r4 : 0 ≤ x7 := by omega) (r4' : x7 < (n3 : Int) := by omega) (r5 : -2147483648 ≤ ((j_up M b0 t1 t2) y2 x7) ∧ ((j_up M b0 t1 t2) y2 x7) ≤ 2147483647 := by omega) (k1 : ((j_up M b0 t1 t2) y2 x7) < 0 → j_J G jm_Sd_anchor d B S 6 [jr_ a0, jr_ a1, ji_ x2, ji_ x3, ji_ x4, ji_ x5, ji_ x6, ji_ (x7 + 1), ji_ x8, ji_ x9, u10] [] (N, K, (j_up M b0 t1 t2), g) Q) (k2 : 0 ≤ ((j_up M b0 t1 t2) y2 x7) → j_J G jm_Sd_anchor d B S 89 [jr_ a0, jr_ a1, ji_ x2, ji_ x3, ji_ x4, ji_ x5, ji_ x6, ji_ x7, ji_ x8, ji_ x9, ji_ 1] [] (N, K, (j_up M b0 t1 t2), g) Q) : j_J G jm_Sd_anchor d B S 75 [jr_ a0, jr_ a1, ji_ x2, ji_ x3, ji_ x4, ji_ x5, ji_ x6, ji_ x7, ji_ x8, ji_ x9, u10] [ji_ t2, ji_ t1, jr_ b0] (N, K, M, g) Q :=
  j_iast d_Sd_anchor_75 hk1 r1 r1' <| j_aload_n d_Sd_anchor_76 rfl <| j_getR d_Sd_anchor_77 f_Sd_15 hk2 hg3 <| j_iload d_Sd_anchor_80 rfl <| j_iald d_Sd_anchor_82 hk3 r4 r4' <| j_if_lt d_Sd_anchor_83 r5 (fun h => j_iinc d_Sd_anchor_168 rfl rfl rfl <| j_goto d_Sd_anchor_171 <| k1 h) (fun h => j_iconst d_Sd_anchor_86 <| j_istore d_Sd_anchor_87 rfl rfl <| k2 h)
theorem s_Sd_anchor_86 {G : j_G} {d B S N : Nat} {K : Nat → Option (Nat × Nat)} {M : Nat → Int → Int} {g : Nat → Int → Option Nat} {Q : j_O → j_S → Prop} {a0 a1 : Nat} {x2 x3 x4 x5 x6 x7 x8 x9 : Int} {u10 : j_V}  (k1 : j_J G jm_Sd_anchor d B S 89 [jr_ a0, jr_ a1, ji_ x2, ji_ x3, ji_ x4, ji_ x5, ji_ x6, ji_ x7, ji_ x8, ji_ x9, ji_ 1] [] (N, K, M, g) Q) : j_J G jm_Sd_anchor d B S 86 [jr_ a0, jr_ a1, ji_ x2, ji_ x3, ji_ x4, ji_ x5, ji_ x6, ji_ x7, ji_ x8, ji_ x9, u10] [] (N, K, M, g) Q :=
  j_iconst d_Sd_anchor_86 <| j_istore d_Sd_anchor_87 rfl rfl <| k1
theorem s_Sd_anchor_89 {G : j_G} {d B S N : Nat} {K : Nat → Option (Nat × Nat)} {M : Nat → Int → Int} {g : Nat → Int → Option Nat} {Q : j_O → j_S → Prop} {a0 a1 : Nat} {x2 x3 x4 x5 x6 x7 x8 x9 x10 : Int} (r1 : -2147483648 ≤ x10 ∧ x10 ≤ 2147483647 := by omega) (r2 : -2147483648 ≤ x6 ∧ x6 ≤ 2147483647 := by omega) (k1 : x6 < x10 → j_J G jm_Sd_anchor d B S 124 [jr_ a0, jr_ a1, ji_ x2, ji_ x3, ji_ x4, ji_ x5, ji_ x6, ji_ x7, ji_ x8, ji_ x9, ji_ x10] [] (N, K, M, g) Q) (k2 : x10 ≤ x6 → j_J G jm_Sd_anchor d B S 96 [jr_ a0, jr_ a1, ji_ x2, ji_ x3, ji_ x4, ji_ x5, ji_ x6, ji_ x7, ji_ x8, ji_ x9, ji_ x10] [] (N, K, M, g) Q) : j_J G jm_Sd_anchor d B S 89 [jr_ a0, jr_ a1, ji_ x2, ji_ x3, ji_ x4, ji_ x5, ji_ x6, ji_ x7, ji_ x8, ji_ x9, ji_ x10] [] (N, K, M, g) Q :=
  j_iload d_Sd_anchor_89 rfl <| j_iload d_Sd_anchor_91 rfl <| j_icmp_gt d_Sd_anchor_93 r1 r2 k1 k2
theorem s_Sd_anchor_96 {G : j_G} {d B S N : Nat} {K : Nat → Option (Nat × Nat)} {M : Nat → Int → Int} {g : Nat → Int → Option Nat} {Q : j_O → j_S → Prop} {a0 a1 y1 y3 n2 n3 : Nat} {x2 x3 x4 x5 x6 x7 x8 x9 x10 : Int} (hk1 : K a0 = some (0, 4)) (hg2 : g a0 2 = some y1) (hg4 : g a0 1 = some y3) (hk2 : K y3 = some (1, n2)) (r5 : 0 ≤ x10 := by omega) (r5' : x10 < (n2 : Int) := by omega) (hk3 : K y1 = some (1, n3)) (r6 : 0 ≤ (M y3 x10) := by omega) (r6' : (M y3 x10) < (n3 : Int) := by omega) (r7 : 0 ≤ x7 := by omega) (r7' : x7 < (n3 : Int) := by omega) (r8 : -2147483648 ≤ (M y1 (M y3 x10)) ∧ (M y1 (M y3 x10)) ≤ 2147483647 := by omega) (r9 : -2147483648 ≤ (M y1 x7) ∧ (M y1 x7) ≤ 2147483647 := by omega) (k1 : (M y1 x7) ≤ (M y1 (M y3 x10)) → j_J G jm_Sd_anchor d B S 124 [jr_ a0, jr_ a1, ji_ x2, ji_ x3, ji_ x4, ji_ x5, ji_ x6, ji_ x7, ji_ x8, ji_ x9, ji_ x10] [] (N, K, M, g) Q) (k2 : (M y1 (M y3 x10)) < (M y1 x7) → j_J G jm_Sd_anchor d B S 89 [jr_ a0, jr_ a1, ji_ x2, ji_ x3, ji_ x4, ji_ x5, ji_ x6, ji_ x7, ji_ x8, ji_ x9, ji_ (x10 + 1)] [] (N, K, M, g) Q) : j_J G jm_Sd_anchor d B S 96 [jr_ a0, jr_ a1, ji_ x2, ji_ x3, ji_ x4, ji_ x5, ji_ x6, ji_ x7, ji_ x8, ji_ x9, ji_ x10] [] (N, K, M, g) Q :=
  j_aload_n d_Sd_anchor_96 rfl <| j_getR d_Sd_anchor_97 f_Sd_15 hk1 hg2 <| j_aload_n d_Sd_anchor_100 rfl <| j_getR d_Sd_anchor_101 f_Sd_9 hk1 hg4 <| j_iload d_Sd_anchor_104 rfl <| j_iald d_Sd_anchor_106 hk2 r5 r5' <| j_iald d_Sd_anchor_107 hk3 r6 r6' <| j_aload_n d_Sd_anchor_108 rfl <| j_getR d_Sd_anchor_109 f_Sd_15 hk1 hg2 <| j_iload d_Sd_anchor_112 rfl <| j_iald d_Sd_anchor_114 hk3 r7 r7' <| j_icmp_ge d_Sd_anchor_115 r8 r9 k1 (fun h => j_iinc d_Sd_anchor_118 rfl rfl rfl <| j_goto d_Sd_anchor_121 <| k2 h)
theorem s_Sd_anchor_118 {G : j_G} {d B S N : Nat} {K : Nat → Option (Nat × Nat)} {M : Nat → Int → Int} {g : Nat → Int → Option Nat} {Q : j_O → j_S → Prop} {a0 a1 : Nat} {x2 x3 x4 x5 x6 x7 x8 x9 x10 : Int}  (k1 : j_J G jm_Sd_anchor d B S 89 [jr_ a0, jr_ a1, ji_ x2, ji_ x3, ji_ x4, ji_ x5, ji_ x6, ji_ x7, ji_ x8, ji_ x9, ji_ (x10 + 1)] [] (N, K, M, g) Q) : j_J G jm_Sd_anchor d B S 118 [jr_ a0, jr_ a1, ji_ x2, ji_ x3, ji_ x4, ji_ x5, ji_ x6, ji_ x7, ji_ x8, ji_ x9, ji_ x10] [] (N, K, M, g) Q :=
  j_iinc d_Sd_anchor_118 rfl rfl rfl <| j_goto d_Sd_anchor_121 k1
theorem s_Sd_anchor_124 {G : j_G} {d B S N : Nat} {K : Nat → Option (Nat × Nat)} {M : Nat → Int → Int} {g : Nat → Int → Option Nat} {Q : j_O → j_S → Prop} {a0 a1 : Nat} {x2 x3 x4 x5 x6 x7 x8 x9 x10 : Int} {q : Int → (Nat → Int → Int) → Prop} (hC : j_Ct G jm_Ma_max d 0 0 [ji_ x6, ji_ x10] (N, K, M, g) (j_pI N K g q)) (k1 : ∀ z M', q z M' → j_J G jm_Sd_anchor (d + 1) B S 131 [jr_ a0, jr_ a1, ji_ x2, ji_ x3, ji_ x4, ji_ x5, ji_ x6, ji_ x7, ji_ x8, ji_ x9, ji_ x10] [ji_ z] (N, K, M', g) Q) : j_J G jm_Sd_anchor (d + 1) B S 124 [jr_ a0, jr_ a1, ji_ x2, ji_ x3, ji_ x4, ji_ x5, ji_ x6, ji_ x7, ji_ x8, ji_ x9, ji_ x10] [] (N, K, M, g) Q :=
  j_iload d_Sd_anchor_124 rfl <| j_iload d_Sd_anchor_126 rfl <| j_aSI (as := [ji_ x6, ji_ x10]) (rest := []) d_Sd_anchor_128 c_Sd_65 rfl (Nat.le_of_ble_eq_true rfl) hC k1
theorem s_Sd_anchor_131 {G : j_G} {d B S N : Nat} {K : Nat → Option (Nat × Nat)} {M : Nat → Int → Int} {g : Nat → Int → Option Nat} {Q : j_O → j_S → Prop} {a0 a1 y1 : Nat} {x2 x3 x4 x5 x6 x7 x8 x9 x10 t0 : Int} (hk1 : K a0 = some (0, 4)) (hg2 : g a0 3 = some y1) (r3 : -2147483648 ≤ x10 ∧ x10 ≤ 2147483647 := by omega) (k1 : x10 ≠ 1 → j_J G jm_Sd_anchor d B S 149 [jr_ a0, jr_ a1, ji_ x2, ji_ x3, ji_ x4, ji_ x5, ji_ t0, ji_ x7, ji_ x8, ji_ x9, ji_ x10] [ji_ x7, jr_ y1] (N, K, M, g) Q) (k2 : x10 = 1 → j_J G jm_Sd_anchor d B S 158 [jr_ a0, jr_ a1, ji_ x2, ji_ x3, ji_ x4, ji_ x5, ji_ t0, ji_ x7, ji_ x8, ji_ x9, ji_ x10] [ji_ (-1), ji_ x7, jr_ y1] (N, K, M, g) Q) : j_J G jm_Sd_anchor d B S 131 [jr_ a0, jr_ a1, ji_ x2, ji_ x3, ji_ x4, ji_ x5, ji_ x6, ji_ x7, ji_ x8, ji_ x9, ji_ x10] [ji_ t0] (N, K, M, g) Q :=
  j_istore d_Sd_anchor_131 rfl rfl <| j_aload_n d_Sd_anchor_133 rfl <| j_getR d_Sd_anchor_134 f_Sd_18 hk1 hg2 <| j_iload d_Sd_anchor_137 rfl <| j_iload d_Sd_anchor_139 rfl <| j_iconst d_Sd_anchor_141 <| j_icmp_ne d_Sd_anchor_142 r3 (by decide) k1 (fun h => j_iconst d_Sd_anchor_145 <| j_goto d_Sd_anchor_146 <| k2 h)
theorem s_Sd_anchor_145 {G : j_G} {d B S N : Nat} {K : Nat → Option (Nat × Nat)} {M : Nat → Int → Int} {g : Nat → Int → Option Nat} {Q : j_O → j_S → Prop} {a0 a1 b0 : Nat} {x2 x3 x4 x5 x6 x7 x8 x9 x10 t1 : Int}  (k1 : j_J G jm_Sd_anchor d B S 158 [jr_ a0, jr_ a1, ji_ x2, ji_ x3, ji_ x4, ji_ x5, ji_ x6, ji_ x7, ji_ x8, ji_ x9, ji_ x10] [ji_ (-1), ji_ t1, jr_ b0] (N, K, M, g) Q) : j_J G jm_Sd_anchor d B S 145 [jr_ a0, jr_ a1, ji_ x2, ji_ x3, ji_ x4, ji_ x5, ji_ x6, ji_ x7, ji_ x8, ji_ x9, ji_ x10] [ji_ t1, jr_ b0] (N, K, M, g) Q :=
  j_iconst d_Sd_anchor_145 <| j_goto d_Sd_anchor_146 k1
theorem s_Sd_anchor_149 {G : j_G} {d B S N : Nat} {K : Nat → Option (Nat × Nat)} {M : Nat → Int → Int} {g : Nat → Int → Option Nat} {Q : j_O → j_S → Prop} {a0 a1 b0 y1 n2 : Nat} {x2 x3 x4 x5 x6 x7 x8 x9 x10 t1 : Int} (hk1 : K a0 = some (0, 4)) (hg2 : g a0 1 = some y1) (hk2 : K y1 = some (1, n2)) (r3 : 0 ≤ (x10 - 1) := by omega) (r3' : (x10 - 1) < (n2 : Int) := by omega) (k1 : j_J G jm_Sd_anchor d B S 158 [jr_ a0, jr_ a1, ji_ x2, ji_ x3, ji_ x4, ji_ x5, ji_ x6, ji_ x7, ji_ x8, ji_ x9, ji_ x10] [ji_ (M y1 (x10 - 1)), ji_ t1, jr_ b0] (N, K, M, g) Q) : j_J G jm_Sd_anchor d B S 149 [jr_ a0, jr_ a1, ji_ x2, ji_ x3, ji_ x4, ji_ x5, ji_ x6, ji_ x7, ji_ x8, ji_ x9, ji_ x10] [ji_ t1, jr_ b0] (N, K, M, g) Q :=
  j_aload_n d_Sd_anchor_149 rfl <| j_getR d_Sd_anchor_150 f_Sd_9 hk1 hg2 <| j_iload d_Sd_anchor_153 rfl <| j_iconst d_Sd_anchor_155 <| j_isub d_Sd_anchor_156 <| j_iald d_Sd_anchor_157 hk2 r3 r3' <| k1
theorem s_Sd_anchor_158 {G : j_G} {d B S N : Nat} {K : Nat → Option (Nat × Nat)} {M : Nat → Int → Int} {g : Nat → Int → Option Nat} {Q : j_O → j_S → Prop} {a0 a1 b0 n1 y2 n3 : Nat} {x2 x3 x4 x5 x6 x7 x8 x9 x10 t1 t2 : Int} (hk1 : K b0 = some (1, n1)) (r1 : 0 ≤ t1 := by omega) (r1' : t1 < (n1 : Int) := by omega) (hk2 : K a0 = some (0, 4)) (hg3 : g a0 1 = some y2) (hk3 : K y2 = some (1, n3)) (r4 : 0 ≤ x10 := by omega) (r4' : x10 < (n3 : Int) := by omega) (k1 : j_J G jm_Sd_anchor d B S 6 [jr_ a0, jr_ a1, ji_ x2, ji_ x3, ji_ x4, ji_ x5, ji_ x6, ji_ (x7 + 1), ji_ x8, ji_ x9, ji_ x10] [] (N, K, (j_up (j_up M b0 t1 t2) y2 x10 x7), g) Q) : j_J G jm_Sd_anchor d B S 158 [jr_ a0, jr_ a1, ji_ x2, ji_ x3, ji_ x4, ji_ x5, ji_ x6, ji_ x7, ji_ x8, ji_ x9, ji_ x10] [ji_ t2, ji_ t1, jr_ b0] (N, K, M, g) Q :=
  j_iast d_Sd_anchor_158 hk1 r1 r1' <| j_aload_n d_Sd_anchor_159 rfl <| j_getR d_Sd_anchor_160 f_Sd_9 hk2 hg3 <| j_iload d_Sd_anchor_163 rfl <| j_iload d_Sd_anchor_165 rfl <| j_iast d_Sd_anchor_167 hk3 r4 r4' <| (j_iinc d_Sd_anchor_168 rfl rfl rfl <| j_goto d_Sd_anchor_171 <| k1)
theorem s_Sd_anchor_168 {G : j_G} {d B S N : Nat} {K : Nat → Option (Nat × Nat)} {M : Nat → Int → Int} {g : Nat → Int → Option Nat} {Q : j_O → j_S → Prop} {a0 a1 : Nat} {x2 x3 x4 x5 x6 x7 x8 x9 : Int} {u10 : j_V}  (k1 : j_J G jm_Sd_anchor d B S 6 [jr_ a0, jr_ a1, ji_ x2, ji_ x3, ji_ x4, ji_ x5, ji_ x6, ji_ (x7 + 1), ji_ x8, ji_ x9, u10] [] (N, K, M, g) Q) : j_J G jm_Sd_anchor d B S 168 [jr_ a0, jr_ a1, ji_ x2, ji_ x3, ji_ x4, ji_ x5, ji_ x6, ji_ x7, ji_ x8, ji_ x9, u10] [] (N, K, M, g) Q :=
  j_iinc d_Sd_anchor_168 rfl rfl rfl <| j_goto d_Sd_anchor_171 k1
theorem s_Sd_anchor_174 {G : j_G} {d B S N : Nat} {K : Nat → Option (Nat × Nat)} {M : Nat → Int → Int} {g : Nat → Int → Option Nat} {Q : j_O → j_S → Prop} {a0 a1 : Nat} {x2 x3 x4 x5 x6 x7 : Int} {u8 u9 u10 : j_V} (r1 : -2147483648 ≤ x6 ∧ x6 ≤ 2147483647 := by omega) (k1 : x6 ≠ 0 → j_J G jm_Sd_anchor d B S 183 [jr_ a0, jr_ a1, ji_ x2, ji_ x3, ji_ x4, ji_ x5, ji_ x6, ji_ x7, u8, u9, u10] [] (N, K, M, g) Q) (k2 : x6 = 0 → j_J G jm_Sd_anchor d B S 192 [jr_ a0, jr_ a1, ji_ x2, ji_ x3, ji_ x4, ji_ x5, ji_ x6, ji_ (-1), u8, u9, u10] [] (N, K, M, g) Q) : j_J G jm_Sd_anchor d B S 174 [jr_ a0, jr_ a1, ji_ x2, ji_ x3, ji_ x4, ji_ x5, ji_ x6, ji_ x7, u8, u9, u10] [] (N, K, M, g) Q :=
  j_iload d_Sd_anchor_174 rfl <| j_if_ne d_Sd_anchor_176 r1 k1 (fun h => j_iconst d_Sd_anchor_179 <| j_goto d_Sd_anchor_180 <| j_istore d_Sd_anchor_190 rfl rfl <| k2 h)
theorem s_Sd_anchor_179 {G : j_G} {d B S N : Nat} {K : Nat → Option (Nat × Nat)} {M : Nat → Int → Int} {g : Nat → Int → Option Nat} {Q : j_O → j_S → Prop} {a0 a1 : Nat} {x2 x3 x4 x5 x6 x7 : Int} {u8 u9 u10 : j_V}  (k1 : j_J G jm_Sd_anchor d B S 192 [jr_ a0, jr_ a1, ji_ x2, ji_ x3, ji_ x4, ji_ x5, ji_ x6, ji_ (-1), u8, u9, u10] [] (N, K, M, g) Q) : j_J G jm_Sd_anchor d B S 179 [jr_ a0, jr_ a1, ji_ x2, ji_ x3, ji_ x4, ji_ x5, ji_ x6, ji_ x7, u8, u9, u10] [] (N, K, M, g) Q :=
  j_iconst d_Sd_anchor_179 <| j_goto d_Sd_anchor_180 (j_istore d_Sd_anchor_190 rfl rfl <| k1)
theorem s_Sd_anchor_183 {G : j_G} {d B S N : Nat} {K : Nat → Option (Nat × Nat)} {M : Nat → Int → Int} {g : Nat → Int → Option Nat} {Q : j_O → j_S → Prop} {a0 a1 y1 n2 : Nat} {x2 x3 x4 x5 x6 x7 : Int} {u8 u9 u10 : j_V} (hk1 : K a0 = some (0, 4)) (hg2 : g a0 1 = some y1) (hk2 : K y1 = some (1, n2)) (r3 : 0 ≤ x6 := by omega) (r3' : x6 < (n2 : Int) := by omega) (k1 : j_J G jm_Sd_anchor d B S 192 [jr_ a0, jr_ a1, ji_ x2, ji_ x3, ji_ x4, ji_ x5, ji_ x6, ji_ (M y1 x6), u8, u9, u10] [] (N, K, M, g) Q) : j_J G jm_Sd_anchor d B S 183 [jr_ a0, jr_ a1, ji_ x2, ji_ x3, ji_ x4, ji_ x5, ji_ x6, ji_ x7, u8, u9, u10] [] (N, K, M, g) Q :=
  j_aload_n d_Sd_anchor_183 rfl <| j_getR d_Sd_anchor_184 f_Sd_9 hk1 hg2 <| j_iload d_Sd_anchor_187 rfl <| j_iald d_Sd_anchor_189 hk2 r3 r3' <| (j_istore d_Sd_anchor_190 rfl rfl <| k1)
theorem s_Sd_anchor_190 {G : j_G} {d B S N : Nat} {K : Nat → Option (Nat × Nat)} {M : Nat → Int → Int} {g : Nat → Int → Option Nat} {Q : j_O → j_S → Prop} {a0 a1 : Nat} {x2 x3 x4 x5 x6 x7 t0 : Int} {u8 u9 u10 : j_V}  (k1 : j_J G jm_Sd_anchor d B S 192 [jr_ a0, jr_ a1, ji_ x2, ji_ x3, ji_ x4, ji_ x5, ji_ x6, ji_ t0, u8, u9, u10] [] (N, K, M, g) Q) : j_J G jm_Sd_anchor d B S 190 [jr_ a0, jr_ a1, ji_ x2, ji_ x3, ji_ x4, ji_ x5, ji_ x6, ji_ x7, u8, u9, u10] [ji_ t0] (N, K, M, g) Q :=
  j_istore d_Sd_anchor_190 rfl rfl <| k1
theorem s_Sd_anchor_192 {G : j_G} {d B S N : Nat} {K : Nat → Option (Nat × Nat)} {M : Nat → Int → Int} {g : Nat → Int → Option Nat} {Q : j_O → j_S → Prop} {a0 a1 : Nat} {x2 x3 x4 x5 x6 x7 : Int} {u8 u9 u10 : j_V} (r1 : -2147483648 ≤ x7 ∧ x7 ≤ 2147483647 := by omega) (k1 : x7 < 0 → j_J G jm_Sd_anchor d B S 224 [jr_ a0, jr_ a1, ji_ x2, ji_ x3, ji_ x4, ji_ x5, ji_ x6, ji_ x7, u8, u9, u10] [] (N, K, M, g) Q) (k2 : 0 ≤ x7 → j_J G jm_Sd_anchor d B S 197 [jr_ a0, jr_ a1, ji_ x2, ji_ x3, ji_ x4, ji_ x5, ji_ x6, ji_ x7, u8, u9, u10] [] (N, K, M, g) Q) : j_J G jm_Sd_anchor d B S 192 [jr_ a0, jr_ a1, ji_ x2, ji_ x3, ji_ x4, ji_ x5, ji_ x6, ji_ x7, u8, u9, u10] [] (N, K, M, g) Q :=
  j_iload d_Sd_anchor_192 rfl <| j_if_lt d_Sd_anchor_194 r1 k1 k2
theorem s_Sd_anchor_197 {G : j_G} {d B S N : Nat} {K : Nat → Option (Nat × Nat)} {M : Nat → Int → Int} {g : Nat → Int → Option Nat} {Q : j_O → j_S → Prop} {a0 a1 y1 y3 n3 n4 y8 n5 : Nat} {x2 x3 x4 x5 x6 x7 : Int} {u8 u9 u10 : j_V} (hk1 : K a1 = some (0, 2)) (hg2 : g a1 2 = some y1) (hk2 : K a0 = some (0, 4)) (hg4 : g a0 2 = some y3) (hk3 : K y3 = some (1, n3)) (r5 : 0 ≤ x7 := by omega) (r5' : x7 < (n3 : Int) := by omega) (hk4 : K y1 = some (2, n4)) (r6 : 0 ≤ x7 := by omega) (r6' : x7 < (n4 : Int) := by omega) (r7 : -128 ≤ (Int.bmod (M y3 x7) 256) ∧ (Int.bmod (M y3 x7) 256) ≤ 127 := by omega) (hg9 : g a0 3 = some y8) (hk5 : K y8 = some (1, n5)) (r10 : 0 ≤ x7 := by omega) (r10' : x7 < (n5 : Int) := by omega) (k1 : j_J G jm_Sd_anchor d B S 192 [jr_ a0, jr_ a1, ji_ x2, ji_ x3, ji_ x4, ji_ x5, ji_ x6, ji_ ((j_up M y1 x7 (Int.bmod (M y3 x7) 256)) y8 x7), u8, u9, u10] [] (N, K, (j_up M y1 x7 (Int.bmod (M y3 x7) 256)), g) Q) : j_J G jm_Sd_anchor d B S 197 [jr_ a0, jr_ a1, ji_ x2, ji_ x3, ji_ x4, ji_ x5, ji_ x6, ji_ x7, u8, u9, u10] [] (N, K, M, g) Q :=
  j_aload_n d_Sd_anchor_197 rfl <| j_getR d_Sd_anchor_198 f_Sd_41 hk1 hg2 <| j_iload d_Sd_anchor_201 rfl <| j_aload_n d_Sd_anchor_203 rfl <| j_getR d_Sd_anchor_204 f_Sd_15 hk2 hg4 <| j_iload d_Sd_anchor_207 rfl <| j_iald d_Sd_anchor_209 hk3 r5 r5' <| j_i2b d_Sd_anchor_210 <| j_bast d_Sd_anchor_211 hk4 r6 r6' r7 <| j_aload_n d_Sd_anchor_212 rfl <| j_getR d_Sd_anchor_213 f_Sd_18 hk2 hg9 <| j_iload d_Sd_anchor_216 rfl <| j_iald d_Sd_anchor_218 hk5 r10 r10' <| j_istore d_Sd_anchor_219 rfl rfl <| j_goto d_Sd_anchor_221 k1
theorem s_Sd_anchor_224 {G : j_G} {d B S N : Nat} {K : Nat → Option (Nat × Nat)} {M : Nat → Int → Int} {g : Nat → Int → Option Nat} {Q : j_O → j_S → Prop} {a0 a1 : Nat} {x2 x3 x4 x5 x6 x7 : Int} {u8 u9 u10 : j_V} (r1 : -2147483648 ≤ x6 ∧ x6 ≤ 2147483647 := by omega) (k1 : x6 ≤ 0 → Q (.inl (some (ji_ 0))) (N, K, M, g)) (k2 : 0 < x6 → Q (.inl (some (ji_ 1))) (N, K, M, g)) : j_J G jm_Sd_anchor d B S 224 [jr_ a0, jr_ a1, ji_ x2, ji_ x3, ji_ x4, ji_ x5, ji_ x6, ji_ x7, u8, u9, u10] [] (N, K, M, g) Q :=
  j_iload d_Sd_anchor_224 rfl <| j_if_le d_Sd_anchor_226 r1 (fun h => j_iconst d_Sd_anchor_233 <| j_zreturn' d_Sd_anchor_234 rfl (Or.inl rfl) <| k1 h) (fun h => j_iconst d_Sd_anchor_229 <| j_goto d_Sd_anchor_230 <| j_zreturn' d_Sd_anchor_234 rfl (Or.inr rfl) <| k2 h)
theorem s_Sd_anchor_229 {G : j_G} {d B S N : Nat} {K : Nat → Option (Nat × Nat)} {M : Nat → Int → Int} {g : Nat → Int → Option Nat} {Q : j_O → j_S → Prop} {a0 a1 : Nat} {x2 x3 x4 x5 x6 x7 : Int} {u8 u9 u10 : j_V}  (k1 : Q (.inl (some (ji_ 1))) (N, K, M, g)) : j_J G jm_Sd_anchor d B S 229 [jr_ a0, jr_ a1, ji_ x2, ji_ x3, ji_ x4, ji_ x5, ji_ x6, ji_ x7, u8, u9, u10] [] (N, K, M, g) Q :=
  j_iconst d_Sd_anchor_229 <| j_goto d_Sd_anchor_230 (j_zreturn' d_Sd_anchor_234 rfl (Or.inr rfl) <| k1)
theorem s_Sd_anchor_233 {G : j_G} {d B S N : Nat} {K : Nat → Option (Nat × Nat)} {M : Nat → Int → Int} {g : Nat → Int → Option Nat} {Q : j_O → j_S → Prop} {a0 a1 : Nat} {x2 x3 x4 x5 x6 x7 : Int} {u8 u9 u10 : j_V}  (k1 : Q (.inl (some (ji_ 0))) (N, K, M, g)) : j_J G jm_Sd_anchor d B S 233 [jr_ a0, jr_ a1, ji_ x2, ji_ x3, ji_ x4, ji_ x5, ji_ x6, ji_ x7, u8, u9, u10] [] (N, K, M, g) Q :=
  j_iconst d_Sd_anchor_233 <| (j_zreturn' d_Sd_anchor_234 rfl (Or.inl rfl) <| k1)
theorem s_Sd_anchor_234 {G : j_G} {d B S N : Nat} {K : Nat → Option (Nat × Nat)} {M : Nat → Int → Int} {g : Nat → Int → Option Nat} {Q : j_O → j_S → Prop} {a0 a1 : Nat} {x2 x3 x4 x5 x6 x7 t0 : Int} {u8 u9 u10 : j_V} (hz1 : t0 = 0 ∨ t0 = 1) (k1 : Q (.inl (some (ji_ t0))) (N, K, M, g)) : j_J G jm_Sd_anchor d B S 234 [jr_ a0, jr_ a1, ji_ x2, ji_ x3, ji_ x4, ji_ x5, ji_ x6, ji_ x7, u8, u9, u10] [ji_ t0] (N, K, M, g) Q :=
  j_zreturn' d_Sd_anchor_234 rfl hz1 k1
