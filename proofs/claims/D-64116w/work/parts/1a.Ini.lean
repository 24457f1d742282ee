/-! decode facts, pool facts and segments: LP_init, Re_init, Sd_init, Pr_init, Tx_init, Pp_init, Ch_init, Hk_init, Mo_init (printed by gen/mk.py) -/
theorem d_LP_init_0 : j_D jm_LP_init 0 (.aload_n 0) 1 1 := ⟨by decide +kernel, rfl⟩
theorem d_LP_init_1 : j_D jm_LP_init 1 (.invokespecial 7) 3 4 := ⟨by decide +kernel, rfl⟩
theorem d_LP_init_4 : j_D jm_LP_init 4 (.aload_n 0) 1 5 := ⟨by decide +kernel, rfl⟩
theorem d_LP_init_5 : j_D jm_LP_init 5 (.iconst 4) 1 6 := ⟨by decide +kernel, rfl⟩
theorem d_LP_init_6 : j_D jm_LP_init 6 (.anewarray 13) 3 9 := ⟨by decide +kernel, rfl⟩
theorem d_LP_init_9 : j_D jm_LP_init 9 (.putfield 15) 3 12 := ⟨by decide +kernel, rfl⟩
theorem d_LP_init_12 : j_D jm_LP_init 12 (.aload_n 0) 1 13 := ⟨by decide +kernel, rfl⟩
theorem d_LP_init_13 : j_D jm_LP_init 13 (.new 19) 3 16 := ⟨by decide +kernel, rfl⟩
theorem d_LP_init_16 : j_D jm_LP_init 16 .dup 1 17 := ⟨by decide +kernel, rfl⟩
theorem d_LP_init_17 : j_D jm_LP_init 17 (.invokespecial 21) 3 20 := ⟨by decide +kernel, rfl⟩
theorem d_LP_init_20 : j_D jm_LP_init 20 (.putfield 22) 3 23 := ⟨by decide +kernel, rfl⟩
theorem d_LP_init_23 : j_D jm_LP_init 23 (.aload_n 0) 1 24 := ⟨by decide +kernel, rfl⟩
theorem d_LP_init_24 : j_D jm_LP_init 24 (.iconst 2) 1 25 := ⟨by decide +kernel, rfl⟩
theorem d_LP_init_25 : j_D jm_LP_init 25 (.anewarray 26) 3 28 := ⟨by decide +kernel, rfl⟩
theorem d_LP_init_28 : j_D jm_LP_init 28 .dup 1 29 := ⟨by decide +kernel, rfl⟩
theorem d_LP_init_29 : j_D jm_LP_init 29 (.iconst 0) 1 30 := ⟨by decide +kernel, rfl⟩
theorem d_LP_init_30 : j_D jm_LP_init 30 (.aload_n 0) 1 31 := ⟨by decide +kernel, rfl⟩
theorem d_LP_init_31 : j_D jm_LP_init 31 (.getfield 22) 3 34 := ⟨by decide +kernel, rfl⟩
theorem d_LP_init_34 : j_D jm_LP_init 34 .aastore 1 35 := ⟨by decide +kernel, rfl⟩
theorem d_LP_init_35 : j_D jm_LP_init 35 .dup 1 36 := ⟨by decide +kernel, rfl⟩
theorem d_LP_init_36 : j_D jm_LP_init 36 (.iconst 1) 1 37 := ⟨by decide +kernel, rfl⟩
theorem d_LP_init_37 : j_D jm_LP_init 37 (.new 28) 3 40 := ⟨by decide +kernel, rfl⟩
theorem d_LP_init_40 : j_D jm_LP_init 40 .dup 1 41 := ⟨by decide +kernel, rfl⟩
theorem d_LP_init_41 : j_D jm_LP_init 41 (.aload_n 0) 1 42 := ⟨by decide +kernel, rfl⟩
theorem d_LP_init_42 : j_D jm_LP_init 42 (.getfield 22) 3 45 := ⟨by decide +kernel, rfl⟩
theorem d_LP_init_45 : j_D jm_LP_init 45 (.invokespecial 30) 3 48 := ⟨by decide +kernel, rfl⟩
theorem d_LP_init_48 : j_D jm_LP_init 48 .aastore 1 49 := ⟨by decide +kernel, rfl⟩
theorem d_LP_init_49 : j_D jm_LP_init 49 (.putfield 33) 3 52 := ⟨by decide +kernel, rfl⟩
theorem d_LP_init_52 : j_D jm_LP_init 52 (.aload_n 0) 1 53 := ⟨by decide +kernel, rfl⟩
theorem d_LP_init_53 : j_D jm_LP_init 53 (.new 37) 3 56 := ⟨by decide +kernel, rfl⟩
theorem d_LP_init_56 : j_D jm_LP_init 56 .dup 1 57 := ⟨by decide +kernel, rfl⟩
theorem d_LP_init_57 : j_D jm_LP_init 57 (.invokespecial 39) 3 60 := ⟨by decide +kernel, rfl⟩
theorem d_LP_init_60 : j_D jm_LP_init 60 (.putfield 40) 3 63 := ⟨by decide +kernel, rfl⟩
theorem d_LP_init_63 : j_D jm_LP_init 63 (.aload_n 0) 1 64 := ⟨by decide +kernel, rfl⟩
theorem d_LP_init_64 : j_D jm_LP_init 64 (.new 37) 3 67 := ⟨by decide +kernel, rfl⟩
theorem d_LP_init_67 : j_D jm_LP_init 67 .dup 1 68 := ⟨by decide +kernel, rfl⟩
theorem d_LP_init_68 : j_D jm_LP_init 68 (.invokespecial 39) 3 71 := ⟨by decide +kernel, rfl⟩
theorem d_LP_init_71 : j_D jm_LP_init 71 (.putfield 44) 3 74 := ⟨by decide +kernel, rfl⟩
theorem d_LP_init_74 : j_D jm_LP_init 74 (.aload_n 0) 1 75 := ⟨by decide +kernel, rfl⟩
theorem d_LP_init_75 : j_D jm_LP_init 75 (.new 37) 3 78 := ⟨by decide +kernel, rfl⟩
theorem d_LP_init_78 : j_D jm_LP_init 78 .dup 1 79 := ⟨by decide +kernel, rfl⟩
theorem d_LP_init_79 : j_D jm_LP_init 79 (.invokespecial 39) 3 82 := ⟨by decide +kernel, rfl⟩
theorem d_LP_init_82 : j_D jm_LP_init 82 (.putfield 47) 3 85 := ⟨by decide +kernel, rfl⟩
theorem d_LP_init_85 : j_D jm_LP_init 85 (.aload_n 0) 1 86 := ⟨by decide +kernel, rfl⟩
theorem d_LP_init_86 : j_D jm_LP_init 86 (.new 13) 3 89 := ⟨by decide +kernel, rfl⟩
theorem d_LP_init_89 : j_D jm_LP_init 89 .dup 1 90 := ⟨by decide +kernel, rfl⟩
theorem d_LP_init_90 : j_D jm_LP_init 90 (.invokespecial 50) 3 93 := ⟨by decide +kernel, rfl⟩
theorem d_LP_init_93 : j_D jm_LP_init 93 (.putfield 51) 3 96 := ⟨by decide +kernel, rfl⟩
theorem d_LP_init_96 : j_D jm_LP_init 96 (.aload_n 0) 1 97 := ⟨by decide +kernel, rfl⟩
theorem d_LP_init_97 : j_D jm_LP_init 97 (.bipush 25) 2 99 := ⟨by decide +kernel, rfl⟩
theorem d_LP_init_99 : j_D jm_LP_init 99 (.anewarray 55) 3 102 := ⟨by decide +kernel, rfl⟩
theorem d_LP_init_102 : j_D jm_LP_init 102 (.putfield 57) 3 105 := ⟨by decide +kernel, rfl⟩
theorem d_LP_init_105 : j_D jm_LP_init 105 (.aload_n 0) 1 106 := ⟨by decide +kernel, rfl⟩
theorem d_LP_init_106 : j_D jm_LP_init 106 (.new 61) 3 109 := ⟨by decide +kernel, rfl⟩
theorem d_LP_init_109 : j_D jm_LP_init 109 .dup 1 110 := ⟨by decide +kernel, rfl⟩
theorem d_LP_init_110 : j_D jm_LP_init 110 (.invokespecial 63) 3 113 := ⟨by decide +kernel, rfl⟩
theorem d_LP_init_113 : j_D jm_LP_init 113 (.putfield 64) 3 116 := ⟨by decide +kernel, rfl⟩
theorem d_LP_init_116 : j_D jm_LP_init 116 (.aload_n 0) 1 117 := ⟨by decide +kernel, rfl⟩
theorem d_LP_init_117 : j_D jm_LP_init 117 (.new 68) 3 120 := ⟨by decide +kernel, rfl⟩
theorem d_LP_init_120 : j_D jm_LP_init 120 .dup 1 121 := ⟨by decide +kernel, rfl⟩
theorem d_LP_init_121 : j_D jm_LP_init 121 (.bipush 60) 2 123 := ⟨by decide +kernel, rfl⟩
theorem d_LP_init_123 : j_D jm_LP_init 123 (.invokespecial 70) 3 126 := ⟨by decide +kernel, rfl⟩
theorem d_LP_init_126 : j_D jm_LP_init 126 (.putfield 73) 3 129 := ⟨by decide +kernel, rfl⟩
theorem d_LP_init_129 : j_D jm_LP_init 129 (.iconst 0) 1 130 := ⟨by decide +kernel, rfl⟩
theorem d_LP_init_130 : j_D jm_LP_init 130 (.istore_n 1) 1 131 := ⟨by decide +kernel, rfl⟩
theorem d_LP_init_131 : j_D jm_LP_init 131 (.iload_n 1) 1 132 := ⟨by decide +kernel, rfl⟩
theorem d_LP_init_132 : j_D jm_LP_init 132 (.iconst 4) 1 133 := ⟨by decide +kernel, rfl⟩
theorem d_LP_init_133 : j_E jm_LP_init 133 (.if_icmp .ge) 22 136 155 := ⟨by decide +kernel, rfl, by decide⟩
theorem d_LP_init_136 : j_D jm_LP_init 136 (.aload_n 0) 1 137 := ⟨by decide +kernel, rfl⟩
theorem d_LP_init_137 : j_D jm_LP_init 137 (.getfield 15) 3 140 := ⟨by decide +kernel, rfl⟩
theorem d_LP_init_140 : j_D jm_LP_init 140 (.iload_n 1) 1 141 := ⟨by decide +kernel, rfl⟩
theorem d_LP_init_141 : j_D jm_LP_init 141 (.new 13) 3 144 := ⟨by decide +kernel, rfl⟩
theorem d_LP_init_144 : j_D jm_LP_init 144 .dup 1 145 := ⟨by decide +kernel, rfl⟩
theorem d_LP_init_145 : j_D jm_LP_init 145 (.invokespecial 50) 3 148 := ⟨by decide +kernel, rfl⟩
theorem d_LP_init_148 : j_D jm_LP_init 148 .aastore 1 149 := ⟨by decide +kernel, rfl⟩
theorem d_LP_init_149 : j_D jm_LP_init 149 (.iinc 1 1) 3 152 := ⟨by decide +kernel, rfl⟩
theorem d_LP_init_152 : j_E jm_LP_init 152 .goto (-21) 155 131 := ⟨by decide +kernel, rfl, by decide⟩
theorem d_LP_init_155 : j_D jm_LP_init 155 (.iconst 0) 1 156 := ⟨by decide +kernel, rfl⟩
theorem d_LP_init_156 : j_D jm_LP_init 156 (.istore_n 1) 1 157 := ⟨by decide +kernel, rfl⟩
theorem d_LP_init_157 : j_D jm_LP_init 157 (.iload_n 1) 1 158 := ⟨by decide +kernel, rfl⟩
theorem d_LP_init_158 : j_D jm_LP_init 158 (.bipush 24) 2 160 := ⟨by decide +kernel, rfl⟩
theorem d_LP_init_160 : j_E jm_LP_init 160 (.if_icmp .gt) 22 163 182 := ⟨by decide +kernel, rfl, by decide⟩
theorem d_LP_init_163 : j_D jm_LP_init 163 (.aload_n 0) 1 164 := ⟨by decide +kernel, rfl⟩
theorem d_LP_init_164 : j_D jm_LP_init 164 (.getfield 57) 3 167 := ⟨by decide +kernel, rfl⟩
theorem d_LP_init_167 : j_D jm_LP_init 167 (.iload_n 1) 1 168 := ⟨by decide +kernel, rfl⟩
theorem d_LP_init_168 : j_D jm_LP_init 168 (.new 55) 3 171 := ⟨by decide +kernel, rfl⟩
theorem d_LP_init_171 : j_D jm_LP_init 171 .dup 1 172 := ⟨by decide +kernel, rfl⟩
theorem d_LP_init_172 : j_D jm_LP_init 172 (.invokespecial 77) 3 175 := ⟨by decide +kernel, rfl⟩
theorem d_LP_init_175 : j_D jm_LP_init 175 .aastore 1 176 := ⟨by decide +kernel, rfl⟩
theorem d_LP_init_176 : j_D jm_LP_init 176 (.iinc 1 1) 3 179 := ⟨by decide +kernel, rfl⟩
theorem d_LP_init_179 : j_E jm_LP_init 179 .goto (-22) 182 157 := ⟨by decide +kernel, rfl, by decide⟩
theorem d_LP_init_182 : j_D jm_LP_init 182 .return_ 1 183 := ⟨by decide +kernel, rfl⟩
theorem d_Re_init_0 : j_D jm_Re_init 0 (.aload_n 0) 1 1 := ⟨by decide +kernel, rfl⟩
theorem d_Re_init_1 : j_D jm_Re_init 1 (.invokespecial 3) 3 4 := ⟨by decide +kernel, rfl⟩
theorem d_Re_init_4 : j_D jm_Re_init 4 (.aload_n 0) 1 5 := ⟨by decide +kernel, rfl⟩
theorem d_Re_init_5 : j_D jm_Re_init 5 (.sipush 1225) 3 8 := ⟨by decide +kernel, rfl⟩
theorem d_Re_init_8 : j_D jm_Re_init 8 (.newarray .byte) 2 10 := ⟨by decide +kernel, rfl⟩
theorem d_Re_init_10 : j_D jm_Re_init 10 (.putfield 9) 3 13 := ⟨by decide +kernel, rfl⟩
theorem d_Re_init_13 : j_D jm_Re_init 13 .return_ 1 14 := ⟨by decide +kernel, rfl⟩
theorem d_Sd_init_0 : j_D jm_Sd_init 0 (.aload_n 0) 1 1 := ⟨by decide +kernel, rfl⟩
theorem d_Sd_init_1 : j_D jm_Sd_init 1 (.invokespecial 3) 3 4 := ⟨by decide +kernel, rfl⟩
theorem d_Sd_init_4 : j_D jm_Sd_init 4 (.aload_n 0) 1 5 := ⟨by decide +kernel, rfl⟩
theorem d_Sd_init_5 : j_D jm_Sd_init 5 (.bipush 25) 2 7 := ⟨by decide +kernel, rfl⟩
theorem d_Sd_init_7 : j_D jm_Sd_init 7 (.newarray .int) 2 9 := ⟨by decide +kernel, rfl⟩
theorem d_Sd_init_9 : j_D jm_Sd_init 9 (.putfield 9) 3 12 := ⟨by decide +kernel, rfl⟩
theorem d_Sd_init_12 : j_D jm_Sd_init 12 (.aload_n 0) 1 13 := ⟨by decide +kernel, rfl⟩
theorem d_Sd_init_13 : j_D jm_Sd_init 13 (.bipush 24) 2 15 := ⟨by decide +kernel, rfl⟩
theorem d_Sd_init_15 : j_D jm_Sd_init 15 (.newarray .int) 2 17 := ⟨by decide +kernel, rfl⟩
theorem d_Sd_init_17 : j_D jm_Sd_init 17 (.putfield 15) 3 20 := ⟨by decide +kernel, rfl⟩
theorem d_Sd_init_20 : j_D jm_Sd_init 20 (.aload_n 0) 1 21 := ⟨by decide +kernel, rfl⟩
theorem d_Sd_init_21 : j_D jm_Sd_init 21 (.bipush 24) 2 23 := ⟨by decide +kernel, rfl⟩
theorem d_Sd_init_23 : j_D jm_Sd_init 23 (.newarray .int) 2 25 := ⟨by decide +kernel, rfl⟩
theorem d_Sd_init_25 : j_D jm_Sd_init 25 (.putfield 18) 3 28 := ⟨by decide +kernel, rfl⟩
theorem d_Sd_init_28 : j_D jm_Sd_init 28 (.aload_n 0) 1 29 := ⟨by decide +kernel, rfl⟩
theorem d_Sd_init_29 : j_D jm_Sd_init 29 (.aload_n 1) 1 30 := ⟨by decide +kernel, rfl⟩
theorem d_Sd_init_30 : j_D jm_Sd_init 30 (.putfield 21) 3 33 := ⟨by decide +kernel, rfl⟩
theorem d_Sd_init_33 : j_D jm_Sd_init 33 .return_ 1 34 := ⟨by decide +kernel, rfl⟩
theorem d_Pr_init_0 : j_D jm_Pr_init 0 (.aload_n 0) 1 1 := ⟨by decide +kernel, rfl⟩
theorem d_Pr_init_1 : j_D jm_Pr_init 1 (.invokespecial 3) 3 4 := ⟨by decide +kernel, rfl⟩
theorem d_Pr_init_4 : j_D jm_Pr_init 4 (.aload_n 0) 1 5 := ⟨by decide +kernel, rfl⟩
theorem d_Pr_init_5 : j_D jm_Pr_init 5 (.new 9) 3 8 := ⟨by decide +kernel, rfl⟩
theorem d_Pr_init_8 : j_D jm_Pr_init 8 .dup 1 9 := ⟨by decide +kernel, rfl⟩
theorem d_Pr_init_9 : j_D jm_Pr_init 9 (.invokespecial 11) 3 12 := ⟨by decide +kernel, rfl⟩
theorem d_Pr_init_12 : j_D jm_Pr_init 12 (.putfield 12) 3 15 := ⟨by decide +kernel, rfl⟩
theorem d_Pr_init_15 : j_D jm_Pr_init 15 (.aload_n 0) 1 16 := ⟨by decide +kernel, rfl⟩
theorem d_Pr_init_16 : j_D jm_Pr_init 16 (.new 9) 3 19 := ⟨by decide +kernel, rfl⟩
theorem d_Pr_init_19 : j_D jm_Pr_init 19 .dup 1 20 := ⟨by decide +kernel, rfl⟩
theorem d_Pr_init_20 : j_D jm_Pr_init 20 (.invokespecial 11) 3 23 := ⟨by decide +kernel, rfl⟩
theorem d_Pr_init_23 : j_D jm_Pr_init 23 (.putfield 18) 3 26 := ⟨by decide +kernel, rfl⟩
theorem d_Pr_init_26 : j_D jm_Pr_init 26 (.aload_n 0) 1 27 := ⟨by decide +kernel, rfl⟩
theorem d_Pr_init_27 : j_D jm_Pr_init 27 (.bipush 24) 2 29 := ⟨by decide +kernel, rfl⟩
theorem d_Pr_init_29 : j_D jm_Pr_init 29 (.newarray .byte) 2 31 := ⟨by decide +kernel, rfl⟩
theorem d_Pr_init_31 : j_D jm_Pr_init 31 (.putfield 21) 3 34 := ⟨by decide +kernel, rfl⟩
theorem d_Pr_init_34 : j_D jm_Pr_init 34 .return_ 1 35 := ⟨by decide +kernel, rfl⟩
theorem d_Tx_init_0 : j_D jm_Tx_init 0 (.aload_n 0) 1 1 := ⟨by decide +kernel, rfl⟩
theorem d_Tx_init_1 : j_D jm_Tx_init 1 (.invokespecial 3) 3 4 := ⟨by decide +kernel, rfl⟩
theorem d_Tx_init_4 : j_D jm_Tx_init 4 (.aload_n 0) 1 5 := ⟨by decide +kernel, rfl⟩
theorem d_Tx_init_5 : j_D jm_Tx_init 5 (.bipush 24) 2 7 := ⟨by decide +kernel, rfl⟩
theorem d_Tx_init_7 : j_D jm_Tx_init 7 (.newarray .byte) 2 9 := ⟨by decide +kernel, rfl⟩
theorem d_Tx_init_9 : j_D jm_Tx_init 9 (.putfield 9) 3 12 := ⟨by decide +kernel, rfl⟩
theorem d_Tx_init_12 : j_D jm_Tx_init 12 .return_ 1 13 := ⟨by decide +kernel, rfl⟩
theorem d_Pp_init_0 : j_D jm_Pp_init 0 (.aload_n 0) 1 1 := ⟨by decide +kernel, rfl⟩
theorem d_Pp_init_1 : j_D jm_Pp_init 1 (.invokespecial 3) 3 4 := ⟨by decide +kernel, rfl⟩
theorem d_Pp_init_4 : j_D jm_Pp_init 4 (.aload_n 0) 1 5 := ⟨by decide +kernel, rfl⟩
theorem d_Pp_init_5 : j_D jm_Pp_init 5 (.sipush 900) 3 8 := ⟨by decide +kernel, rfl⟩
theorem d_Pp_init_8 : j_D jm_Pp_init 8 (.newarray .byte) 2 10 := ⟨by decide +kernel, rfl⟩
theorem d_Pp_init_10 : j_D jm_Pp_init 10 (.putfield 9) 3 13 := ⟨by decide +kernel, rfl⟩
theorem d_Pp_init_13 : j_D jm_Pp_init 13 .return_ 1 14 := ⟨by decide +kernel, rfl⟩
theorem d_Ch_init_0 : j_D jm_Ch_init 0 (.aload_n 0) 1 1 := ⟨by decide +kernel, rfl⟩
theorem d_Ch_init_1 : j_D jm_Ch_init 1 (.invokespecial 1) 3 4 := ⟨by decide +kernel, rfl⟩
theorem d_Ch_init_4 : j_D jm_Ch_init 4 .return_ 1 5 := ⟨by decide +kernel, rfl⟩
theorem d_Hk_init_0 : j_D jm_Hk_init 0 (.aload_n 0) 1 1 := ⟨by decide +kernel, rfl⟩
theorem d_Hk_init_1 : j_D jm_Hk_init 1 (.invokespecial 1) 3 4 := ⟨by decide +kernel, rfl⟩
theorem d_Hk_init_4 : j_D jm_Hk_init 4 .return_ 1 5 := ⟨by decide +kernel, rfl⟩
theorem d_Mo_init_0 : j_D jm_Mo_init 0 (.aload_n 0) 1 1 := ⟨by decide +kernel, rfl⟩
theorem d_Mo_init_1 : j_D jm_Mo_init 1 (.invokespecial 1) 3 4 := ⟨by decide +kernel, rfl⟩
theorem d_Mo_init_4 : j_D jm_Mo_init 4 (.aload_n 0) 1 5 := ⟨by decide +kernel, rfl⟩
theorem d_Mo_init_5 : j_D jm_Mo_init 5 (.bipush 96) 2 7 := ⟨by decide +kernel, rfl⟩
theorem d_Mo_init_7 : j_D jm_Mo_init 7 (.newarray .int) 2 9 := ⟨by decide +kernel, rfl⟩
theorem d_Mo_init_9 : j_D jm_Mo_init 9 (.putfield 7) 3 12 := ⟨by decide +kernel, rfl⟩
theorem d_Mo_init_12 : j_D jm_Mo_init 12 (.aload_n 0) 1 13 := ⟨by decide +kernel, rfl⟩
theorem d_Mo_init_13 : j_D jm_Mo_init 13 (.iconst 4) 1 14 := ⟨by decide +kernel, rfl⟩
theorem d_Mo_init_14 : j_D jm_Mo_init 14 (.newarray .int) 2 16 := ⟨by decide +kernel, rfl⟩
theorem d_Mo_init_16 : j_D jm_Mo_init 16 (.putfield 13) 3 19 := ⟨by decide +kernel, rfl⟩
theorem d_Mo_init_19 : j_D jm_Mo_init 19 (.aload_n 0) 1 20 := ⟨by decide +kernel, rfl⟩
theorem d_Mo_init_20 : j_D jm_Mo_init 20 (.bipush 24) 2 22 := ⟨by decide +kernel, rfl⟩
theorem d_Mo_init_22 : j_D jm_Mo_init 22 (.newarray .int) 2 24 := ⟨by decide +kernel, rfl⟩
theorem d_Mo_init_24 : j_D jm_Mo_init 24 (.putfield 16) 3 27 := ⟨by decide +kernel, rfl⟩
theorem d_Mo_init_27 : j_D jm_Mo_init 27 (.aload_n 0) 1 28 := ⟨by decide +kernel, rfl⟩
theorem d_Mo_init_28 : j_D jm_Mo_init 28 (.bipush 24) 2 30 := ⟨by decide +kernel, rfl⟩
theorem d_Mo_init_30 : j_D jm_Mo_init 30 (.newarray .int) 2 32 := ⟨by decide +kernel, rfl⟩
theorem d_Mo_init_32 : j_D jm_Mo_init 32 (.putfield 19) 3 35 := ⟨by decide +kernel, rfl⟩
theorem d_Mo_init_35 : j_D jm_Mo_init 35 (.aload_n 0) 1 36 := ⟨by decide +kernel, rfl⟩
theorem d_Mo_init_36 : j_D jm_Mo_init 36 (.bipush 24) 2 38 := ⟨by decide +kernel, rfl⟩
theorem d_Mo_init_38 : j_D jm_Mo_init 38 (.newarray .int) 2 40 := ⟨by decide +kernel, rfl⟩
theorem d_Mo_init_40 : j_D jm_Mo_init 40 (.putfield 22) 3 43 := ⟨by decide +kernel, rfl⟩
theorem d_Mo_init_43 : j_D jm_Mo_init 43 (.aload_n 0) 1 44 := ⟨by decide +kernel, rfl⟩
theorem d_Mo_init_44 : j_D jm_Mo_init 44 (.sipush 625) 3 47 := ⟨by decide +kernel, rfl⟩
theorem d_Mo_init_47 : j_D jm_Mo_init 47 (.newarray .int) 2 49 := ⟨by decide +kernel, rfl⟩
theorem d_Mo_init_49 : j_D jm_Mo_init 49 (.putfield 25) 3 52 := ⟨by decide +kernel, rfl⟩
theorem d_Mo_init_52 : j_D jm_Mo_init 52 (.aload_n 0) 1 53 := ⟨by decide +kernel, rfl⟩
theorem d_Mo_init_53 : j_D jm_Mo_init 53 (.bipush 60) 2 55 := ⟨by decide +kernel, rfl⟩
theorem d_Mo_init_55 : j_D jm_Mo_init 55 (.newarray .int) 2 57 := ⟨by decide +kernel, rfl⟩
theorem d_Mo_init_57 : j_D jm_Mo_init 57 (.putfield 28) 3 60 := ⟨by decide +kernel, rfl⟩
theorem d_Mo_init_60 : j_D jm_Mo_init 60 (.aload_n 0) 1 61 := ⟨by decide +kernel, rfl⟩
theorem d_Mo_init_61 : j_D jm_Mo_init 61 (.bipush 60) 2 63 := ⟨by decide +kernel, rfl⟩
theorem d_Mo_init_63 : j_D jm_Mo_init 63 (.newarray .int) 2 65 := ⟨by decide +kernel, rfl⟩
theorem d_Mo_init_65 : j_D jm_Mo_init 65 (.putfield 31) 3 68 := ⟨by decide +kernel, rfl⟩
theorem d_Mo_init_68 : j_D jm_Mo_init 68 (.aload_n 0) 1 69 := ⟨by decide +kernel, rfl⟩
theorem d_Mo_init_69 : j_D jm_Mo_init 69 (.bipush 60) 2 71 := ⟨by decide +kernel, rfl⟩
theorem d_Mo_init_71 : j_D jm_Mo_init 71 (.newarray .int) 2 73 := ⟨by decide +kernel, rfl⟩
theorem d_Mo_init_73 : j_D jm_Mo_init 73 (.putfield 34) 3 76 := ⟨by decide +kernel, rfl⟩
theorem d_Mo_init_76 : j_D jm_Mo_init 76 (.aload_n 0) 1 77 := ⟨by decide +kernel, rfl⟩
theorem d_Mo_init_77 : j_D jm_Mo_init 77 (.bipush 60) 2 79 := ⟨by decide +kernel, rfl⟩
theorem d_Mo_init_79 : j_D jm_Mo_init 79 (.newarray .int) 2 81 := ⟨by decide +kernel, rfl⟩
theorem d_Mo_init_81 : j_D jm_Mo_init 81 (.putfield 37) 3 84 := ⟨by decide +kernel, rfl⟩
theorem d_Mo_init_84 : j_D jm_Mo_init 84 (.aload_n 0) 1 85 := ⟨by decide +kernel, rfl⟩
theorem d_Mo_init_85 : j_D jm_Mo_init 85 (.bipush 24) 2 87 := ⟨by decide +kernel, rfl⟩
theorem d_Mo_init_87 : j_D jm_Mo_init 87 (.newarray .int) 2 89 := ⟨by decide +kernel, rfl⟩
theorem d_Mo_init_89 : j_D jm_Mo_init 89 (.putfield 40) 3 92 := ⟨by decide +kernel, rfl⟩
theorem d_Mo_init_92 : j_D jm_Mo_init 92 (.aload_n 0) 1 93 := ⟨by decide +kernel, rfl⟩
theorem d_Mo_init_93 : j_D jm_Mo_init 93 (.bipush 24) 2 95 := ⟨by decide +kernel, rfl⟩
theorem d_Mo_init_95 : j_D jm_Mo_init 95 (.newarray .int) 2 97 := ⟨by decide +kernel, rfl⟩
theorem d_Mo_init_97 : j_D jm_Mo_init 97 (.putfield 43) 3 100 := ⟨by decide +kernel, rfl⟩
theorem d_Mo_init_100 : j_D jm_Mo_init 100 (.aload_n 0) 1 101 := ⟨by decide +kernel, rfl⟩
theorem d_Mo_init_101 : j_D jm_Mo_init 101 (.bipush 24) 2 103 := ⟨by decide +kernel, rfl⟩
theorem d_Mo_init_103 : j_D jm_Mo_init 103 (.newarray .int) 2 105 := ⟨by decide +kernel, rfl⟩
theorem d_Mo_init_105 : j_D jm_Mo_init 105 (.putfield 46) 3 108 := ⟨by decide +kernel, rfl⟩
theorem d_Mo_init_108 : j_D jm_Mo_init 108 (.aload_n 0) 1 109 := ⟨by decide +kernel, rfl⟩
theorem d_Mo_init_109 : j_D jm_Mo_init 109 (.bipush 24) 2 111 := ⟨by decide +kernel, rfl⟩
theorem d_Mo_init_111 : j_D jm_Mo_init 111 (.newarray .int) 2 113 := ⟨by decide +kernel, rfl⟩
theorem d_Mo_init_113 : j_D jm_Mo_init 113 (.putfield 49) 3 116 := ⟨by decide +kernel, rfl⟩
theorem d_Mo_init_116 : j_D jm_Mo_init 116 (.aload_n 0) 1 117 := ⟨by decide +kernel, rfl⟩
theorem d_Mo_init_117 : j_D jm_Mo_init 117 (.bipush 24) 2 119 := ⟨by decide +kernel, rfl⟩
theorem d_Mo_init_119 : j_D jm_Mo_init 119 (.newarray .int) 2 121 := ⟨by decide +kernel, rfl⟩
theorem d_Mo_init_121 : j_D jm_Mo_init 121 (.putfield 52) 3 124 := ⟨by decide +kernel, rfl⟩
theorem d_Mo_init_124 : j_D jm_Mo_init 124 (.aload_n 0) 1 125 := ⟨by decide +kernel, rfl⟩
theorem d_Mo_init_125 : j_D jm_Mo_init 125 (.bipush 48) 2 127 := ⟨by decide +kernel, rfl⟩
theorem d_Mo_init_127 : j_D jm_Mo_init 127 (.newarray .int) 2 129 := ⟨by decide +kernel, rfl⟩
theorem d_Mo_init_129 : j_D jm_Mo_init 129 (.putfield 55) 3 132 := ⟨by decide +kernel, rfl⟩
theorem d_Mo_init_132 : j_D jm_Mo_init 132 (.aload_n 0) 1 133 := ⟨by decide +kernel, rfl⟩
theorem d_Mo_init_133 : j_D jm_Mo_init 133 (.bipush 48) 2 135 := ⟨by decide +kernel, rfl⟩
theorem d_Mo_init_135 : j_D jm_Mo_init 135 (.newarray .int) 2 137 := ⟨by decide +kernel, rfl⟩
theorem d_Mo_init_137 : j_D jm_Mo_init 137 (.putfield 58) 3 140 := ⟨by decide +kernel, rfl⟩
theorem d_Mo_init_140 : j_D jm_Mo_init 140 (.aload_n 0) 1 141 := ⟨by decide +kernel, rfl⟩
theorem d_Mo_init_141 : j_D jm_Mo_init 141 (.sipush 900) 3 144 := ⟨by decide +kernel, rfl⟩
theorem d_Mo_init_144 : j_D jm_Mo_init 144 (.newarray .int) 2 146 := ⟨by decide +kernel, rfl⟩
theorem d_Mo_init_146 : j_D jm_Mo_init 146 (.putfield 61) 3 149 := ⟨by decide +kernel, rfl⟩
theorem d_Mo_init_149 : j_D jm_Mo_init 149 (.aload_n 0) 1 150 := ⟨by decide +kernel, rfl⟩
theorem d_Mo_init_150 : j_D jm_Mo_init 150 (.bipush 80) 2 152 := ⟨by decide +kernel, rfl⟩
theorem d_Mo_init_152 : j_D jm_Mo_init 152 (.newarray .int) 2 154 := ⟨by decide +kernel, rfl⟩
theorem d_Mo_init_154 : j_D jm_Mo_init 154 (.putfield 64) 3 157 := ⟨by decide +kernel, rfl⟩
theorem d_Mo_init_157 : j_D jm_Mo_init 157 (.aload_n 0) 1 158 := ⟨by decide +kernel, rfl⟩
theorem d_Mo_init_158 : j_D jm_Mo_init 158 (.bipush 80) 2 160 := ⟨by decide +kernel, rfl⟩
theorem d_Mo_init_160 : j_D jm_Mo_init 160 (.newarray .int) 2 162 := ⟨by decide +kernel, rfl⟩
theorem d_Mo_init_162 : j_D jm_Mo_init 162 (.putfield 67) 3 165 := ⟨by decide +kernel, rfl⟩
theorem d_Mo_init_165 : j_D jm_Mo_init 165 (.aload_n 0) 1 166 := ⟨by decide +kernel, rfl⟩
theorem d_Mo_init_166 : j_D jm_Mo_init 166 (.bipush 80) 2 168 := ⟨by decide +kernel, rfl⟩
theorem d_Mo_init_168 : j_D jm_Mo_init 168 (.newarray .int) 2 170 := ⟨by decide +kernel, rfl⟩
theorem d_Mo_init_170 : j_D jm_Mo_init 170 (.putfield 70) 3 173 := ⟨by decide +kernel, rfl⟩
theorem d_Mo_init_173 : j_D jm_Mo_init 173 (.aload_n 0) 1 174 := ⟨by decide +kernel, rfl⟩
theorem d_Mo_init_174 : j_D jm_Mo_init 174 (.bipush 80) 2 176 := ⟨by decide +kernel, rfl⟩
theorem d_Mo_init_176 : j_D jm_Mo_init 176 (.newarray .int) 2 178 := ⟨by decide +kernel, rfl⟩
theorem d_Mo_init_178 : j_D jm_Mo_init 178 (.putfield 73) 3 181 := ⟨by decide +kernel, rfl⟩
theorem d_Mo_init_181 : j_D jm_Mo_init 181 (.aload_n 0) 1 182 := ⟨by decide +kernel, rfl⟩
theorem d_Mo_init_182 : j_D jm_Mo_init 182 (.bipush 80) 2 184 := ⟨by decide +kernel, rfl⟩
theorem d_Mo_init_184 : j_D jm_Mo_init 184 (.newarray .int) 2 186 := ⟨by decide +kernel, rfl⟩
theorem d_Mo_init_186 : j_D jm_Mo_init 186 (.putfield 76) 3 189 := ⟨by decide +kernel, rfl⟩
theorem d_Mo_init_189 : j_D jm_Mo_init 189 (.aload_n 0) 1 190 := ⟨by decide +kernel, rfl⟩
theorem d_Mo_init_190 : j_D jm_Mo_init 190 (.bipush 80) 2 192 := ⟨by decide +kernel, rfl⟩
theorem d_Mo_init_192 : j_D jm_Mo_init 192 (.newarray .int) 2 194 := ⟨by decide +kernel, rfl⟩
theorem d_Mo_init_194 : j_D jm_Mo_init 194 (.putfield 79) 3 197 := ⟨by decide +kernel, rfl⟩
theorem d_Mo_init_197 : j_D jm_Mo_init 197 (.aload_n 0) 1 198 := ⟨by decide +kernel, rfl⟩
theorem d_Mo_init_198 : j_D jm_Mo_init 198 (.bipush 24) 2 200 := ⟨by decide +kernel, rfl⟩
theorem d_Mo_init_200 : j_D jm_Mo_init 200 (.newarray .int) 2 202 := ⟨by decide +kernel, rfl⟩
theorem d_Mo_init_202 : j_D jm_Mo_init 202 (.putfield 82) 3 205 := ⟨by decide +kernel, rfl⟩
theorem d_Mo_init_205 : j_D jm_Mo_init 205 (.aload_n 0) 1 206 := ⟨by decide +kernel, rfl⟩
theorem d_Mo_init_206 : j_D jm_Mo_init 206 (.bipush 24) 2 208 := ⟨by decide +kernel, rfl⟩
theorem d_Mo_init_208 : j_D jm_Mo_init 208 (.newarray .int) 2 210 := ⟨by decide +kernel, rfl⟩
theorem d_Mo_init_210 : j_D jm_Mo_init 210 (.putfield 85) 3 213 := ⟨by decide +kernel, rfl⟩
theorem d_Mo_init_213 : j_D jm_Mo_init 213 .return_ 1 214 := ⟨by decide +kernel, rfl⟩
theorem lc_Re_init : j_Lc jm_Re_init 0 := ⟨by decide +kernel, by decide +kernel, by decide, by decide +kernel, by decide⟩
theorem c_LP_21 : j_Li "LinePatcher" 21 jm_Re_init 0 := ⟨Or.inr ⟨"LinePatcher", by decide +kernel⟩, by decide +kernel, rfl, rfl, rfl, lc_Re_init⟩
theorem lc_Sd_init : j_Lc jm_Sd_init 1 := ⟨by decide +kernel, by decide +kernel, by decide, by decide +kernel, by decide⟩
theorem c_LP_30 : j_Li "LinePatcher" 30 jm_Sd_init 1 := ⟨Or.inl (by decide +kernel), by decide +kernel, rfl, rfl, rfl, lc_Sd_init⟩
theorem lc_Pr_init : j_Lc jm_Pr_init 0 := ⟨by decide +kernel, by decide +kernel, by decide, by decide +kernel, by decide⟩
theorem c_LP_39 : j_Li "LinePatcher" 39 jm_Pr_init 0 := ⟨Or.inr ⟨"LinePatcher", by decide +kernel⟩, by decide +kernel, rfl, rfl, rfl, lc_Pr_init⟩
theorem lc_Tx_init : j_Lc jm_Tx_init 0 := ⟨by decide +kernel, by decide +kernel, by decide, by decide +kernel, by decide⟩
theorem c_LP_50 : j_Li "LinePatcher" 50 jm_Tx_init 0 := ⟨Or.inr ⟨"LinePatcher", by decide +kernel⟩, by decide +kernel, rfl, rfl, rfl, lc_Tx_init⟩
theorem lc_Pp_init : j_Lc jm_Pp_init 0 := ⟨by decide +kernel, by decide +kernel, by decide, by decide +kernel, by decide⟩
theorem c_LP_63 : j_Li "LinePatcher" 63 jm_Pp_init 0 := ⟨Or.inr ⟨"LinePatcher", by decide +kernel⟩, by decide +kernel, rfl, rfl, rfl, lc_Pp_init⟩
theorem lc_AL_init : j_Lc jm_AL_init 1 := ⟨by decide +kernel, by decide +kernel, by decide, by decide +kernel, by decide⟩
theorem c_LP_70 : j_Li "LinePatcher" 70 jm_AL_init 1 := ⟨Or.inl (by decide +kernel), by decide +kernel, rfl, rfl, rfl, lc_AL_init⟩
theorem lc_Ch_init : j_Lc jm_Ch_init 0 := ⟨by decide +kernel, by decide +kernel, by decide, by decide +kernel, by decide⟩
theorem c_LP_77 : j_Li "LinePatcher" 77 jm_Ch_init 0 := ⟨Or.inr ⟨"LinePatcher", by decide +kernel⟩, by decide +kernel, rfl, rfl, rfl, lc_Ch_init⟩
theorem c_Pr_11 : j_Li "LinePatcher$Pairing" 11 jm_Tx_init 0 := ⟨Or.inr ⟨"LinePatcher", by decide +kernel⟩, by decide +kernel, rfl, rfl, rfl, lc_Tx_init⟩
theorem s_LP_init_0 {G : j_G} {d B S N : Nat} {K : Nat → Option (Nat × Nat)} {M : Nat → Int → Int} {g : Nat → Int → Option Nat} {Q : j_O → j_S → Prop} {a0 : Nat} {u1 : j_V}  (k1 : j_J G jm_LP_init (d + 1) B S 4 [jr_ a0, u1] [] (N, K, M, g) Q) : j_J G jm_LP_init (d + 1) B S 0 [jr_ a0, u1] [] (N, K, M, g) Q :=
  j_aload_n d_LP_init_0 rfl <| j_objInit d_LP_init_1 (by decide +kernel) (Nat.le_of_ble_eq_true rfl) <| k1
-- LP_init 4: anewarray: by hand
-- LP_init 20: anewarray: by hand
-- LP_init 48: new: by hand
-- LP_init 60: new: by hand
-- LP_init 71: new: by hand
-- LP_init 82: new: by hand
-- LP_init 93: anewarray: by hand
-- LP_init 113: new: by hand
theorem s_LP_init_126 {G : j_G} {d B S N : Nat} {K : Nat → Option (Nat × Nat)} {M : Nat → Int → Int} {g : Nat → Int → Option Nat} {Q : j_O → j_S → Prop} {a0 b0 b1 : Nat} {u1 : j_V} (hk1 : K b0 = some (0, 0)) (k1 : j_J G jm_LP_init d B S 131 [jr_ a0, ji_ 0] [] (N, K, M, (j_up g b0 11 (some b1))) Q) : j_J G jm_LP_init d B S 126 [jr_ a0, u1] [jr_ b1, jr_ b0] (N, K, M, g) Q :=
  j_putR d_LP_init_126 f_LP_73 (⟨_, rfl, Or.inr ⟨rfl, rfl, rfl⟩⟩) (Or.inl ⟨_, rfl⟩) hk1 <| j_iconst d_LP_init_129 <| j_istore_n d_LP_init_130 rfl rfl <| k1
theorem s_LP_init_131 {G : j_G} {d B S N : Nat} {K : Nat → Option (Nat × Nat)} {M : Nat → Int → Int} {g : Nat → Int → Option Nat} {Q : j_O → j_S → Prop} {a0 : Nat} {x1 : Int} (r1 : -2147483648 ≤ x1 ∧ x1 ≤ 2147483647 := by omega) (k1 : 4 ≤ x1 → j_J G jm_LP_init d B S 157 [jr_ a0, ji_ 0] [] (N, K, M, g) Q) (k2 : x1 < 4 → j_J G jm_LP_init d B S 136 [jr_ a0, ji_ x1] [] (N, K, M, g) Q) : j_J G jm_LP_init d B S 131 [jr_ a0, ji_ x1] [] (N, K, M, g) Q :=
  j_iload_n d_LP_init_131 rfl <| j_iconst d_LP_init_132 <| j_icmp_ge d_LP_init_133 r1 (by decide) (fun h => j_iconst d_LP_init_155 <| j_istore_n d_LP_init_156 rfl rfl <| k1 h) k2
-- LP_init 136: new: by hand
theorem s_LP_init_148 {G : j_G} {d B S N : Nat} {K : Nat → Option (Nat × Nat)} {M : Nat → Int → Int} {g : Nat → Int → Option Nat} {Q : j_O → j_S → Prop} {a0 b0 b2 n1 tg1 ci2 : Nat} {x1 t1 : Int} (hk1 : K b0 = some (tg1 + 3, n1)) (r1 : 0 ≤ t1 := by omega) (r1' : t1 < (n1 : Int) := by omega) (hk3 : K b2 = some (0, ci2)) (hc4 : j_cast ci2 (tg1 + 3)) (k1 : j_J G jm_LP_init d B S 131 [jr_ a0, ji_ (x1 + 1)] [] (N, K, M, (j_up g b0 t1 (some b2))) Q) : j_J G jm_LP_init d B S 148 [jr_ a0, ji_ x1] [jr_ b2, ji_ t1, jr_ b0] (N, K, M, g) Q :=
  j_aast d_LP_init_148 hk1 r1 r1' hk3 hc4 <| j_iinc d_LP_init_149 rfl rfl rfl <| j_goto d_LP_init_152 k1
theorem s_LP_init_155 {G : j_G} {d B S N : Nat} {K : Nat → Option (Nat × Nat)} {M : Nat → Int → Int} {g : Nat → Int → Option Nat} {Q : j_O → j_S → Prop} {a0 : Nat} {x1 : Int}  (k1 : j_J G jm_LP_init d B S 157 [jr_ a0, ji_ 0] [] (N, K, M, g) Q) : j_J G jm_LP_init d B S 155 [jr_ a0, ji_ x1] [] (N, K, M, g) Q :=
  j_iconst d_LP_init_155 <| j_istore_n d_LP_init_156 rfl rfl <| k1
theorem s_LP_init_157 {G : j_G} {d B S N : Nat} {K : Nat → Option (Nat × Nat)} {M : Nat → Int → Int} {g : Nat → Int → Option Nat} {Q : j_O → j_S → Prop} {a0 : Nat} {x1 : Int} (r1 : -2147483648 ≤ x1 ∧ x1 ≤ 2147483647 := by omega) (k1 : 24 < x1 → Q (.inl none) (N, K, M, g)) (k2 : x1 ≤ 24 → j_J G jm_LP_init d B S 163 [jr_ a0, ji_ x1] [] (N, K, M, g) Q) : j_J G jm_LP_init d B S 157 [jr_ a0, ji_ x1] [] (N, K, M, g) Q :=
  j_iload_n d_LP_init_157 rfl <| j_bipush d_LP_init_158 (by decide) <| j_icmp_gt d_LP_init_160 r1 (by decide) (fun h => j_vreturn d_LP_init_182 rfl <| k1 h) k2
-- LP_init 163: new: by hand
theorem s_LP_init_175 {G : j_G} {d B S N : Nat} {K : Nat → Option (Nat × Nat)} {M : Nat → Int → Int} {g : Nat → Int → Option Nat} {Q : j_O → j_S → Prop} {a0 b0 b2 n1 tg1 ci2 : Nat} {x1 t1 : Int} (hk1 : K b0 = some (tg1 + 3, n1)) (r1 : 0 ≤ t1 := by omega) (r1' : t1 < (n1 : Int) := by omega) (hk3 : K b2 = some (0, ci2)) (hc4 : j_cast ci2 (tg1 + 3)) (k1 : j_J G jm_LP_init d B S 157 [jr_ a0, ji_ (x1 + 1)] [] (N, K, M, (j_up g b0 t1 (some b2))) Q) : j_J G jm_LP_init d B S 175 [jr_ a0, ji_ x1] [jr_ b2, ji_ t1, jr_ b0] (N, K, M, g) Q :=
  j_aast d_LP_init_175 hk1 r1 r1' hk3 hc4 <| j_iinc d_LP_init_176 rfl rfl rfl <| j_goto d_LP_init_179 k1
theorem s_LP_init_182 {G : j_G} {d B S N : Nat} {K : Nat → Option (Nat × Nat)} {M : Nat → Int → Int} {g : Nat → Int → Option Nat} {Q : j_O → j_S → Prop} {a0 : Nat} {x1 : Int}  (k1 : Q (.inl none) (N, K, M, g)) : j_J G jm_LP_init d B S 182 [jr_ a0, ji_ x1] [] (N, K, M, g) Q :=
  j_vreturn d_LP_init_182 rfl k1
theorem s_Re_init_0 {G : j_G} {d B S N : Nat} {K : Nat → Option (Nat × Nat)} {M : Nat → Int → Int} {g : Nat → Int → Option Nat} {Q : j_O → j_S → Prop} {a0 : Nat}  (k1 : j_J G jm_Re_init (d + 1) B S 4 [jr_ a0] [] (N, K, M, g) Q) : j_J G jm_Re_init (d + 1) B S 0 [jr_ a0] [] (N, K, M, g) Q :=
  j_aload_n d_Re_init_0 rfl <| j_objInit d_Re_init_1 (by decide +kernel) (Nat.le_of_ble_eq_true rfl) <| k1
-- Re_init 4: newarray: by hand
theorem s_Sd_init_0 {G : j_G} {d B S N : Nat} {K : Nat → Option (Nat × Nat)} {M : Nat → Int → Int} {g : Nat → Int → Option Nat} {Q : j_O → j_S → Prop} {a0 a1 : Nat}  (k1 : j_J G jm_Sd_init (d + 1) B S 4 [jr_ a0, jr_ a1] [] (N, K, M, g) Q) : j_J G jm_Sd_init (d + 1) B S 0 [jr_ a0, jr_ a1] [] (N, K, M, g) Q :=
  j_aload_n d_Sd_init_0 rfl <| j_objInit d_Sd_init_1 (by decide +kernel) (Nat.le_of_ble_eq_true rfl) <| k1
-- Sd_init 4: newarray: by hand
theorem s_Pr_init_0 {G : j_G} {d B S N : Nat} {K : Nat → Option (Nat × Nat)} {M : Nat → Int → Int} {g : Nat → Int → Option Nat} {Q : j_O → j_S → Prop} {a0 : Nat}  (k1 : j_J G jm_Pr_init (d + 1) B S 4 [jr_ a0] [] (N, K, M, g) Q) : j_J G jm_Pr_init (d + 1) B S 0 [jr_ a0] [] (N, K, M, g) Q :=
  j_aload_n d_Pr_init_0 rfl <| j_objInit d_Pr_init_1 (by decide +kernel) (Nat.le_of_ble_eq_true rfl) <| k1
-- Pr_init 4: new: by hand
-- Pr_init 12: new: by hand
-- Pr_init 23: newarray: by hand
theorem s_Tx_init_0 {G : j_G} {d B S N : Nat} {K : Nat → Option (Nat × Nat)} {M : Nat → Int → Int} {g : Nat → Int → Option Nat} {Q : j_O → j_S → Prop} {a0 : Nat}  (k1 : j_J G jm_Tx_init (d + 1) B S 4 [jr_ a0] [] (N, K, M, g) Q) : j_J G jm_Tx_init (d + 1) B S 0 [jr_ a0] [] (N, K, M, g) Q :=
  j_aload_n d_Tx_init_0 rfl <| j_objInit d_Tx_init_1 (by decide +kernel) (Nat.le_of_ble_eq_true rfl) <| k1
-- Tx_init 4: newarray: by hand
theorem s_Pp_init_0 {G : j_G} {d B S N : Nat} {K : Nat → Option (Nat × Nat)} {M : Nat → Int → Int} {g : Nat → Int → Option Nat} {Q : j_O → j_S → Prop} {a0 : Nat}  (k1 : j_J G jm_Pp_init (d + 1) B S 4 [jr_ a0] [] (N, K, M, g) Q) : j_J G jm_Pp_init (d + 1) B S 0 [jr_ a0] [] (N, K, M, g) Q :=
  j_aload_n d_Pp_init_0 rfl <| j_objInit d_Pp_init_1 (by decide +kernel) (Nat.le_of_ble_eq_true rfl) <| k1
-- Pp_init 4: newarray: by hand
theorem s_Ch_init_0 {G : j_G} {d B S N : Nat} {K : Nat → Option (Nat × Nat)} {M : Nat → Int → Int} {g : Nat → Int → Option Nat} {Q : j_O → j_S → Prop} {a0 : Nat}  (k1 : j_J G jm_Ch_init (d + 1) B S 4 [jr_ a0] [] (N, K, M, g) Q) : j_J G jm_Ch_init (d + 1) B S 0 [jr_ a0] [] (N, K, M, g) Q :=
  j_aload_n d_Ch_init_0 rfl <| j_objInit d_Ch_init_1 (by decide +kernel) (Nat.le_of_ble_eq_true rfl) <| k1
theorem s_Ch_init_4 {G : j_G} {d B S N : Nat} {K : Nat → Option (Nat × Nat)} {M : Nat → Int → Int} {g : Nat → Int → Option Nat} {Q : j_O → j_S → Prop} {a0 : Nat}  (k1 : Q (.inl none) (N, K, M, g)) : j_J G jm_Ch_init d B S 4 [jr_ a0] [] (N, K, M, g) Q :=
  j_vreturn d_Ch_init_4 rfl k1
theorem s_Hk_init_0 {G : j_G} {d B S N : Nat} {K : Nat → Option (Nat × Nat)} {M : Nat → Int → Int} {g : Nat → Int → Option Nat} {Q : j_O → j_S → Prop} {a0 : Nat}  (k1 : j_J G jm_Hk_init (d + 1) B S 4 [jr_ a0] [] (N, K, M, g) Q) : j_J G jm_Hk_init (d + 1) B S 0 [jr_ a0] [] (N, K, M, g) Q :=
  j_aload_n d_Hk_init_0 rfl <| j_objInit d_Hk_init_1 (by decide +kernel) (Nat.le_of_ble_eq_true rfl) <| k1
theorem s_Hk_init_4 {G : j_G} {d B S N : Nat} {K : Nat → Option (Nat × Nat)} {M : Nat → Int → Int} {g : Nat → Int → Option Nat} {Q : j_O → j_S → Prop} {a0 : Nat}  (k1 : Q (.inl none) (N, K, M, g)) : j_J G jm_Hk_init d B S 4 [jr_ a0] [] (N, K, M, g) Q :=
  j_vreturn d_Hk_init_4 rfl k1
theorem s_Mo_init_0 {G : j_G} {d B S N : Nat} {K : Nat → Option (Nat × Nat)} {M : Nat → Int → Int} {g : Nat → Int → Option Nat} {Q : j_O → j_S → Prop} {a0 : Nat}  (k1 : j_J G jm_Mo_init (d + 1) B S 4 [jr_ a0] [] (N, K, M, g) Q) : j_J G jm_Mo_init (d + 1) B S 0 [jr_ a0] [] (N, K, M, g) Q :=
  j_aload_n d_Mo_init_0 rfl <| j_objInit d_Mo_init_1 (by decide +kernel) (Nat.le_of_ble_eq_true rfl) <| k1
-- Mo_init 4: newarray: by hand
