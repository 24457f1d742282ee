/-! decode facts, pool facts and segments: LP_within, LP_isLetter, LP_isText, Ma_abs, Ma_max, Ma_min, Tx_isPlain, Tx_copy, Tx_add, Tx_addAll, Tx_same (printed by gen/mk.py) -/
theorem d_LP_within_0 : j_D jm_LP_within 0 (.iload_n 0) 1 1 := ⟨by decide +kernel, rfl⟩
theorem d_LP_within_1 : j_D jm_LP_within 1 (.iload_n 1) 1 2 := ⟨by decide +kernel, rfl⟩
theorem d_LP_within_2 : j_E jm_LP_within 2 (.if_icmp .lt) 12 5 14 := ⟨by decide +kernel, rfl, by decide⟩
theorem d_LP_within_5 : j_D jm_LP_within 5 (.iload_n 0) 1 6 := ⟨by decide +kernel, rfl⟩
theorem d_LP_within_6 : j_D jm_LP_within 6 (.iload_n 2) 1 7 := ⟨by decide +kernel, rfl⟩
theorem d_LP_within_7 : j_E jm_LP_within 7 (.if_icmp .gt) 7 10 14 := ⟨by decide +kernel, rfl, by decide⟩
theorem d_LP_within_10 : j_D jm_LP_within 10 (.iconst 1) 1 11 := ⟨by decide +kernel, rfl⟩
theorem d_LP_within_11 : j_E jm_LP_within 11 .goto 4 14 15 := ⟨by decide +kernel, rfl, by decide⟩
theorem d_LP_within_14 : j_D jm_LP_within 14 (.iconst 0) 1 15 := ⟨by decide +kernel, rfl⟩
theorem d_LP_within_15 : j_D jm_LP_within 15 .ireturn 1 16 := ⟨by decide +kernel, rfl⟩
theorem d_LP_isLetter_0 : j_D jm_LP_isLetter 0 (.iload_n 0) 1 1 := ⟨by decide +kernel, rfl⟩
theorem d_LP_isLetter_1 : j_D jm_LP_isLetter 1 (.bipush 97) 2 3 := ⟨by decide +kernel, rfl⟩
theorem d_LP_isLetter_3 : j_D jm_LP_isLetter 3 (.bipush 122) 2 5 := ⟨by decide +kernel, rfl⟩
theorem d_LP_isLetter_5 : j_D jm_LP_isLetter 5 (.invokestatic 1) 3 8 := ⟨by decide +kernel, rfl⟩
theorem d_LP_isLetter_8 : j_D jm_LP_isLetter 8 .ireturn 1 9 := ⟨by decide +kernel, rfl⟩
theorem d_LP_isText_0 : j_D jm_LP_isText 0 (.iload_n 0) 1 1 := ⟨by decide +kernel, rfl⟩
theorem d_LP_isText_1 : j_D jm_LP_isText 1 (.iconst 0) 1 2 := ⟨by decide +kernel, rfl⟩
theorem d_LP_isText_2 : j_D jm_LP_isText 2 (.iconst 3) 1 3 := ⟨by decide +kernel, rfl⟩
theorem d_LP_isText_3 : j_D jm_LP_isText 3 (.invokestatic 1) 3 6 := ⟨by decide +kernel, rfl⟩
theorem d_LP_isText_6 : j_D jm_LP_isText 6 .ireturn 1 7 := ⟨by decide +kernel, rfl⟩
theorem d_Ma_abs_0 : j_D jm_Ma_abs 0 (.iload_n 0) 1 1 := ⟨by decide +kernel, rfl⟩
theorem d_Ma_abs_1 : j_E jm_Ma_abs 1 (.ifCond .ge) 8 4 9 := ⟨by decide +kernel, rfl, by decide⟩
theorem d_Ma_abs_4 : j_D jm_Ma_abs 4 (.iload_n 0) 1 5 := ⟨by decide +kernel, rfl⟩
theorem d_Ma_abs_5 : j_D jm_Ma_abs 5 .ineg 1 6 := ⟨by decide +kernel, rfl⟩
theorem d_Ma_abs_6 : j_E jm_Ma_abs 6 .goto 4 9 10 := ⟨by decide +kernel, rfl, by decide⟩
theorem d_Ma_abs_9 : j_D jm_Ma_abs 9 (.iload_n 0) 1 10 := ⟨by decide +kernel, rfl⟩
theorem d_Ma_abs_10 : j_D jm_Ma_abs 10 .ireturn 1 11 := ⟨by decide +kernel, rfl⟩
theorem d_Ma_max_0 : j_D jm_Ma_max 0 (.iload_n 0) 1 1 := ⟨by decide +kernel, rfl⟩
theorem d_Ma_max_1 : j_D jm_Ma_max 1 (.iload_n 1) 1 2 := ⟨by decide +kernel, rfl⟩
theorem d_Ma_max_2 : j_E jm_Ma_max 2 (.if_icmp .lt) 7 5 9 := ⟨by decide +kernel, rfl, by decide⟩
theorem d_Ma_max_5 : j_D jm_Ma_max 5 (.iload_n 0) 1 6 := ⟨by decide +kernel, rfl⟩
theorem d_Ma_max_6 : j_E jm_Ma_max 6 .goto 4 9 10 := ⟨by decide +kernel, rfl, by decide⟩
theorem d_Ma_max_9 : j_D jm_Ma_max 9 (.iload_n 1) 1 10 := ⟨by decide +kernel, rfl⟩
theorem d_Ma_max_10 : j_D jm_Ma_max 10 .ireturn 1 11 := ⟨by decide +kernel, rfl⟩
theorem d_Ma_min_0 : j_D jm_Ma_min 0 (.iload_n 0) 1 1 := ⟨by decide +kernel, rfl⟩
theorem d_Ma_min_1 : j_D jm_Ma_min 1 (.iload_n 1) 1 2 := ⟨by decide +kernel, rfl⟩
theorem d_Ma_min_2 : j_E jm_Ma_min 2 (.if_icmp .gt) 7 5 9 := ⟨by decide +kernel, rfl, by decide⟩
theorem d_Ma_min_5 : j_D jm_Ma_min 5 (.iload_n 0) 1 6 := ⟨by decide +kernel, rfl⟩
theorem d_Ma_min_6 : j_E jm_Ma_min 6 .goto 4 9 10 := ⟨by decide +kernel, rfl, by decide⟩
theorem d_Ma_min_9 : j_D jm_Ma_min 9 (.iload_n 1) 1 10 := ⟨by decide +kernel, rfl⟩
theorem d_Ma_min_10 : j_D jm_Ma_min 10 .ireturn 1 11 := ⟨by decide +kernel, rfl⟩
theorem d_Tx_isPlain_0 : j_D jm_Tx_isPlain 0 (.iconst 1) 1 1 := ⟨by decide +kernel, rfl⟩
theorem d_Tx_isPlain_1 : j_D jm_Tx_isPlain 1 (.istore_n 1) 1 2 := ⟨by decide +kernel, rfl⟩
theorem d_Tx_isPlain_2 : j_D jm_Tx_isPlain 2 (.iconst 0) 1 3 := ⟨by decide +kernel, rfl⟩
theorem d_Tx_isPlain_3 : j_D jm_Tx_isPlain 3 (.istore_n 2) 1 4 := ⟨by decide +kernel, rfl⟩
theorem d_Tx_isPlain_4 : j_D jm_Tx_isPlain 4 (.iload_n 2) 1 5 := ⟨by decide +kernel, rfl⟩
theorem d_Tx_isPlain_5 : j_D jm_Tx_isPlain 5 (.aload_n 0) 1 6 := ⟨by decide +kernel, rfl⟩
theorem d_Tx_isPlain_6 : j_D jm_Tx_isPlain 6 (.getfield 15) 3 9 := ⟨by decide +kernel, rfl⟩
theorem d_Tx_isPlain_9 : j_E jm_Tx_isPlain 9 (.if_icmp .ge) 21 12 30 := ⟨by decide +kernel, rfl, by decide⟩
theorem d_Tx_isPlain_12 : j_D jm_Tx_isPlain 12 (.iload_n 1) 1 13 := ⟨by decide +kernel, rfl⟩
theorem d_Tx_isPlain_13 : j_D jm_Tx_isPlain 13 (.aload_n 0) 1 14 := ⟨by decide +kernel, rfl⟩
theorem d_Tx_isPlain_14 : j_D jm_Tx_isPlain 14 (.getfield 9) 3 17 := ⟨by decide +kernel, rfl⟩
theorem d_Tx_isPlain_17 : j_D jm_Tx_isPlain 17 (.iload_n 2) 1 18 := ⟨by decide +kernel, rfl⟩
theorem d_Tx_isPlain_18 : j_D jm_Tx_isPlain 18 .baload 1 19 := ⟨by decide +kernel, rfl⟩
theorem d_Tx_isPlain_19 : j_D jm_Tx_isPlain 19 (.invokestatic 19) 3 22 := ⟨by decide +kernel, rfl⟩
theorem d_Tx_isPlain_22 : j_D jm_Tx_isPlain 22 .iand 1 23 := ⟨by decide +kernel, rfl⟩
theorem d_Tx_isPlain_23 : j_D jm_Tx_isPlain 23 (.istore_n 1) 1 24 := ⟨by decide +kernel, rfl⟩
theorem d_Tx_isPlain_24 : j_D jm_Tx_isPlain 24 (.iinc 2 1) 3 27 := ⟨by decide +kernel, rfl⟩
theorem d_Tx_isPlain_27 : j_E jm_Tx_isPlain 27 .goto (-23) 30 4 := ⟨by decide +kernel, rfl, by decide⟩
theorem d_Tx_isPlain_30 : j_D jm_Tx_isPlain 30 (.iload_n 1) 1 31 := ⟨by decide +kernel, rfl⟩
theorem d_Tx_isPlain_31 : j_D jm_Tx_isPlain 31 .ireturn 1 32 := ⟨by decide +kernel, rfl⟩
theorem d_Tx_copy_0 : j_D jm_Tx_copy 0 (.aload_n 1) 1 1 := ⟨by decide +kernel, rfl⟩
theorem d_Tx_copy_1 : j_D jm_Tx_copy 1 (.getfield 9) 3 4 := ⟨by decide +kernel, rfl⟩
theorem d_Tx_copy_4 : j_D jm_Tx_copy 4 (.iconst 0) 1 5 := ⟨by decide +kernel, rfl⟩
theorem d_Tx_copy_5 : j_D jm_Tx_copy 5 (.aload_n 0) 1 6 := ⟨by decide +kernel, rfl⟩
theorem d_Tx_copy_6 : j_D jm_Tx_copy 6 (.getfield 9) 3 9 := ⟨by decide +kernel, rfl⟩
theorem d_Tx_copy_9 : j_D jm_Tx_copy 9 (.iconst 0) 1 10 := ⟨by decide +kernel, rfl⟩
theorem d_Tx_copy_10 : j_D jm_Tx_copy 10 (.bipush 24) 2 12 := ⟨by decide +kernel, rfl⟩
theorem d_Tx_copy_12 : j_D jm_Tx_copy 12 (.invokestatic 23) 3 15 := ⟨by decide +kernel, rfl⟩
theorem d_Tx_copy_15 : j_D jm_Tx_copy 15 (.aload_n 0) 1 16 := ⟨by decide +kernel, rfl⟩
theorem d_Tx_copy_16 : j_D jm_Tx_copy 16 (.aload_n 1) 1 17 := ⟨by decide +kernel, rfl⟩
theorem d_Tx_copy_17 : j_D jm_Tx_copy 17 (.getfield 15) 3 20 := ⟨by decide +kernel, rfl⟩
theorem d_Tx_copy_20 : j_D jm_Tx_copy 20 (.putfield 15) 3 23 := ⟨by decide +kernel, rfl⟩
theorem d_Tx_copy_23 : j_D jm_Tx_copy 23 .return_ 1 24 := ⟨by decide +kernel, rfl⟩
theorem d_Tx_add_0 : j_D jm_Tx_add 0 (.aload_n 0) 1 1 := ⟨by decide +kernel, rfl⟩
theorem d_Tx_add_1 : j_D jm_Tx_add 1 (.getfield 15) 3 4 := ⟨by decide +kernel, rfl⟩
theorem d_Tx_add_4 : j_D jm_Tx_add 4 (.bipush 24) 2 6 := ⟨by decide +kernel, rfl⟩
theorem d_Tx_add_6 : j_E jm_Tx_add 6 (.if_icmp .ne) 5 9 11 := ⟨by decide +kernel, rfl, by decide⟩
theorem d_Tx_add_9 : j_D jm_Tx_add 9 (.iconst 0) 1 10 := ⟨by decide +kernel, rfl⟩
theorem d_Tx_add_10 : j_D jm_Tx_add 10 .ireturn 1 11 := ⟨by decide +kernel, rfl⟩
theorem d_Tx_add_11 : j_D jm_Tx_add 11 (.aload_n 0) 1 12 := ⟨by decide +kernel, rfl⟩
theorem d_Tx_add_12 : j_D jm_Tx_add 12 (.getfield 9) 3 15 := ⟨by decide +kernel, rfl⟩
theorem d_Tx_add_15 : j_D jm_Tx_add 15 (.aload_n 0) 1 16 := ⟨by decide +kernel, rfl⟩
theorem d_Tx_add_16 : j_D jm_Tx_add 16 .dup 1 17 := ⟨by decide +kernel, rfl⟩
theorem d_Tx_add_17 : j_D jm_Tx_add 17 (.getfield 15) 3 20 := ⟨by decide +kernel, rfl⟩
theorem d_Tx_add_20 : j_D jm_Tx_add 20 .dup_x1 1 21 := ⟨by decide +kernel, rfl⟩
theorem d_Tx_add_21 : j_D jm_Tx_add 21 (.iconst 1) 1 22 := ⟨by decide +kernel, rfl⟩
theorem d_Tx_add_22 : j_D jm_Tx_add 22 .iadd 1 23 := ⟨by decide +kernel, rfl⟩
theorem d_Tx_add_23 : j_D jm_Tx_add 23 (.putfield 15) 3 26 := ⟨by decide +kernel, rfl⟩
theorem d_Tx_add_26 : j_D jm_Tx_add 26 (.iload_n 1) 1 27 := ⟨by decide +kernel, rfl⟩
theorem d_Tx_add_27 : j_D jm_Tx_add 27 .i2b 1 28 := ⟨by decide +kernel, rfl⟩
theorem d_Tx_add_28 : j_D jm_Tx_add 28 .bastore 1 29 := ⟨by decide +kernel, rfl⟩
theorem d_Tx_add_29 : j_D jm_Tx_add 29 (.iconst 1) 1 30 := ⟨by decide +kernel, rfl⟩
theorem d_Tx_add_30 : j_D jm_Tx_add 30 .ireturn 1 31 := ⟨by decide +kernel, rfl⟩
theorem d_Tx_addAll_0 : j_D jm_Tx_addAll 0 (.iconst 1) 1 1 := ⟨by decide +kernel, rfl⟩
theorem d_Tx_addAll_1 : j_D jm_Tx_addAll 1 (.istore 4) 2 3 := ⟨by decide +kernel, rfl⟩
theorem d_Tx_addAll_3 : j_D jm_Tx_addAll 3 (.iload_n 2) 1 4 := ⟨by decide +kernel, rfl⟩
theorem d_Tx_addAll_4 : j_D jm_Tx_addAll 4 (.istore 5) 2 6 := ⟨by decide +kernel, rfl⟩
theorem d_Tx_addAll_6 : j_D jm_Tx_addAll 6 (.iload 5) 2 8 := ⟨by decide +kernel, rfl⟩
theorem d_Tx_addAll_8 : j_D jm_Tx_addAll 8 (.iload_n 3) 1 9 := ⟨by decide +kernel, rfl⟩
theorem d_Tx_addAll_9 : j_E jm_Tx_addAll 9 (.if_icmp .ge) 25 12 34 := ⟨by decide +kernel, rfl, by decide⟩
theorem d_Tx_addAll_12 : j_D jm_Tx_addAll 12 (.iload 4) 2 14 := ⟨by decide +kernel, rfl⟩
theorem d_Tx_addAll_14 : j_D jm_Tx_addAll 14 (.aload_n 0) 1 15 := ⟨by decide +kernel, rfl⟩
theorem d_Tx_addAll_15 : j_D jm_Tx_addAll 15 (.aload_n 1) 1 16 := ⟨by decide +kernel, rfl⟩
theorem d_Tx_addAll_16 : j_D jm_Tx_addAll 16 (.getfield 9) 3 19 := ⟨by decide +kernel, rfl⟩
theorem d_Tx_addAll_19 : j_D jm_Tx_addAll 19 (.iload 5) 2 21 := ⟨by decide +kernel, rfl⟩
theorem d_Tx_addAll_21 : j_D jm_Tx_addAll 21 .baload 1 22 := ⟨by decide +kernel, rfl⟩
theorem d_Tx_addAll_22 : j_D jm_Tx_addAll 22 (.invokevirtual 29) 3 25 := ⟨by decide +kernel, rfl⟩
theorem d_Tx_addAll_25 : j_D jm_Tx_addAll 25 .iand 1 26 := ⟨by decide +kernel, rfl⟩
theorem d_Tx_addAll_26 : j_D jm_Tx_addAll 26 (.istore 4) 2 28 := ⟨by decide +kernel, rfl⟩
theorem d_Tx_addAll_28 : j_D jm_Tx_addAll 28 (.iinc 5 1) 3 31 := ⟨by decide +kernel, rfl⟩
theorem d_Tx_addAll_31 : j_E jm_Tx_addAll 31 .goto (-25) 34 6 := ⟨by decide +kernel, rfl, by decide⟩
theorem d_Tx_addAll_34 : j_D jm_Tx_addAll 34 (.iload 4) 2 36 := ⟨by decide +kernel, rfl⟩
theorem d_Tx_addAll_36 : j_D jm_Tx_addAll 36 .ireturn 1 37 := ⟨by decide +kernel, rfl⟩
theorem d_Tx_same_0 : j_D jm_Tx_same 0 (.iload_n 2) 1 1 := ⟨by decide +kernel, rfl⟩
theorem d_Tx_same_1 : j_D jm_Tx_same 1 (.iload_n 1) 1 2 := ⟨by decide +kernel, rfl⟩
theorem d_Tx_same_2 : j_D jm_Tx_same 2 .isub 1 3 := ⟨by decide +kernel, rfl⟩
theorem d_Tx_same_3 : j_D jm_Tx_same 3 (.iload 5) 2 5 := ⟨by decide +kernel, rfl⟩
theorem d_Tx_same_5 : j_D jm_Tx_same 5 (.iload 4) 2 7 := ⟨by decide +kernel, rfl⟩
theorem d_Tx_same_7 : j_D jm_Tx_same 7 .isub 1 8 := ⟨by decide +kernel, rfl⟩
theorem d_Tx_same_8 : j_E jm_Tx_same 8 (.if_icmp .ne) 7 11 15 := ⟨by decide +kernel, rfl, by decide⟩
theorem d_Tx_same_11 : j_D jm_Tx_same 11 (.iconst 1) 1 12 := ⟨by decide +kernel, rfl⟩
theorem d_Tx_same_12 : j_E jm_Tx_same 12 .goto 4 15 16 := ⟨by decide +kernel, rfl, by decide⟩
theorem d_Tx_same_15 : j_D jm_Tx_same 15 (.iconst 0) 1 16 := ⟨by decide +kernel, rfl⟩
theorem d_Tx_same_16 : j_D jm_Tx_same 16 (.istore 6) 2 18 := ⟨by decide +kernel, rfl⟩
theorem d_Tx_same_18 : j_D jm_Tx_same 18 (.iconst 0) 1 19 := ⟨by decide +kernel, rfl⟩
theorem d_Tx_same_19 : j_D jm_Tx_same 19 (.istore 7) 2 21 := ⟨by decide +kernel, rfl⟩
theorem d_Tx_same_21 : j_D jm_Tx_same 21 (.iload 7) 2 23 := ⟨by decide +kernel, rfl⟩
theorem d_Tx_same_23 : j_D jm_Tx_same 23 (.iload_n 2) 1 24 := ⟨by decide +kernel, rfl⟩
theorem d_Tx_same_24 : j_D jm_Tx_same 24 (.iload_n 1) 1 25 := ⟨by decide +kernel, rfl⟩
theorem d_Tx_same_25 : j_D jm_Tx_same 25 .isub 1 26 := ⟨by decide +kernel, rfl⟩
theorem d_Tx_same_26 : j_E jm_Tx_same 26 (.if_icmp .ge) 43 29 69 := ⟨by decide +kernel, rfl, by decide⟩
theorem d_Tx_same_29 : j_D jm_Tx_same 29 (.iload 6) 2 31 := ⟨by decide +kernel, rfl⟩
theorem d_Tx_same_31 : j_E jm_Tx_same 31 (.ifCond .eq) 38 34 69 := ⟨by decide +kernel, rfl, by decide⟩
theorem d_Tx_same_34 : j_D jm_Tx_same 34 (.aload_n 0) 1 35 := ⟨by decide +kernel, rfl⟩
theorem d_Tx_same_35 : j_D jm_Tx_same 35 (.getfield 9) 3 38 := ⟨by decide +kernel, rfl⟩
theorem d_Tx_same_38 : j_D jm_Tx_same 38 (.iload_n 1) 1 39 := ⟨by decide +kernel, rfl⟩
theorem d_Tx_same_39 : j_D jm_Tx_same 39 (.iload 7) 2 41 := ⟨by decide +kernel, rfl⟩
theorem d_Tx_same_41 : j_D jm_Tx_same 41 .iadd 1 42 := ⟨by decide +kernel, rfl⟩
theorem d_Tx_same_42 : j_D jm_Tx_same 42 .baload 1 43 := ⟨by decide +kernel, rfl⟩
theorem d_Tx_same_43 : j_D jm_Tx_same 43 (.aload_n 3) 1 44 := ⟨by decide +kernel, rfl⟩
theorem d_Tx_same_44 : j_D jm_Tx_same 44 (.getfield 9) 3 47 := ⟨by decide +kernel, rfl⟩
theorem d_Tx_same_47 : j_D jm_Tx_same 47 (.iload 4) 2 49 := ⟨by decide +kernel, rfl⟩
theorem d_Tx_same_49 : j_D jm_Tx_same 49 (.iload 7) 2 51 := ⟨by decide +kernel, rfl⟩
theorem d_Tx_same_51 : j_D jm_Tx_same 51 .iadd 1 52 := ⟨by decide +kernel, rfl⟩
theorem d_Tx_same_52 : j_D jm_Tx_same 52 .baload 1 53 := ⟨by decide +kernel, rfl⟩
theorem d_Tx_same_53 : j_E jm_Tx_same 53 (.if_icmp .ne) 7 56 60 := ⟨by decide +kernel, rfl, by decide⟩
theorem d_Tx_same_56 : j_D jm_Tx_same 56 (.iconst 1) 1 57 := ⟨by decide +kernel, rfl⟩
theorem d_Tx_same_57 : j_E jm_Tx_same 57 .goto 4 60 61 := ⟨by decide +kernel, rfl, by decide⟩
theorem d_Tx_same_60 : j_D jm_Tx_same 60 (.iconst 0) 1 61 := ⟨by decide +kernel, rfl⟩
theorem d_Tx_same_61 : j_D jm_Tx_same 61 (.istore 6) 2 63 := ⟨by decide +kernel, rfl⟩
theorem d_Tx_same_63 : j_D jm_Tx_same 63 (.iinc 7 1) 3 66 := ⟨by decide +kernel, rfl⟩
theorem d_Tx_same_66 : j_E jm_Tx_same 66 .goto (-45) 69 21 := ⟨by decide +kernel, rfl, by decide⟩
theorem d_Tx_same_69 : j_D jm_Tx_same 69 (.iload 6) 2 71 := ⟨by decide +kernel, rfl⟩
theorem d_Tx_same_71 : j_D jm_Tx_same 71 .ireturn 1 72 := ⟨by decide +kernel, rfl⟩
theorem lc_LP_within : j_Lc jm_LP_within 3 := ⟨by decide +kernel, by decide +kernel, by decide, by decide +kernel, by decide⟩
theorem c_LP_1 : j_Ls "LinePatcher" 1 jm_LP_within 3 := ⟨Or.inl (by decide +kernel), by decide +kernel, rfl, lc_LP_within⟩
theorem f_Tx_15 : j_F "LinePatcher$Text" 15 1 1 1 false := ⟨rfl, _, "LinePatcher$Text", rfl, by decide, rfl, Or.inl (by decide +kernel), Or.inl rfl⟩
theorem f_Tx_9 : j_F "LinePatcher$Text" 9 1 0 0 true := ⟨rfl, _, "LinePatcher$Text", rfl, by decide, rfl, Or.inl (by decide +kernel), Or.inl rfl⟩
theorem lc_LP_isLetter : j_Lc jm_LP_isLetter 1 := ⟨by decide +kernel, by decide +kernel, by decide, by decide +kernel, by decide⟩
theorem c_Tx_19 : j_Ls "LinePatcher$Text" 19 jm_LP_isLetter 1 := ⟨Or.inr ⟨"LinePatcher", by decide +kernel⟩, by decide +kernel, rfl, lc_LP_isLetter⟩
theorem lc_Tx_add : j_Lc jm_Tx_add 1 := ⟨by decide +kernel, by decide +kernel, by decide, by decide +kernel, by decide⟩
theorem c_Tx_29 : j_Lv "LinePatcher$Text" 29 1 jm_Tx_add 1 := ⟨by decide +kernel, by decide +kernel, ⟨_, rfl, by decide +kernel⟩, lc_Tx_add⟩
theorem s_LP_within_0 {G : j_G} {d B S N : Nat} {K : Nat → Option (Nat × Nat)} {M : Nat → Int → Int} {g : Nat → Int → Option Nat} {Q : j_O → j_S → Prop} {x0 x1 x2 : Int} (r1 : -2147483648 ≤ x0 ∧ x0 ≤ 2147483647 := by omega) (r2 : -2147483648 ≤ x1 ∧ x1 ≤ 2147483647 := by omega) (k1 : x0 < x1 → Q (.inl (some (ji_ 0))) (N, K, M, g)) (k2 : x1 ≤ x0 → j_J G jm_LP_within d B S 5 [ji_ x0, ji_ x1, ji_ x2] [] (N, K, M, g) Q) : j_J G jm_LP_within d B S 0 [ji_ x0, ji_ x1, ji_ x2] [] (N, K, M, g) Q :=
  j_iload_n d_LP_within_0 rfl <| j_iload_n d_LP_within_1 rfl <| j_icmp_lt d_LP_within_2 r1 r2 (fun h => j_iconst d_LP_within_14 <| j_zreturn' d_LP_within_15 rfl (Or.inl rfl) <| k1 h) k2
theorem s_LP_within_5 {G : j_G} {d B S N : Nat} {K : Nat → Option (Nat × Nat)} {M : Nat → Int → Int} {g : Nat → Int → Option Nat} {Q : j_O → j_S → Prop} {x0 x1 x2 : Int} (r1 : -2147483648 ≤ x0 ∧ x0 ≤ 2147483647 := by omega) (r2 : -2147483648 ≤ x2 ∧ x2 ≤ 2147483647 := by omega) (k1 : x2 < x0 → Q (.inl (some (ji_ 0))) (N, K, M, g)) (k2 : x0 ≤ x2 → Q (.inl (some (ji_ 1))) (N, K, M, g)) : j_J G jm_LP_within d B S 5 [ji_ x0, ji_ x1, ji_ x2] [] (N, K, M, g) Q :=
  j_iload_n d_LP_within_5 rfl <| j_iload_n d_LP_within_6 rfl <| j_icmp_gt d_LP_within_7 r1 r2 (fun h => j_iconst d_LP_within_14 <| j_zreturn' d_LP_within_15 rfl (Or.inl rfl) <| k1 h) (fun h => j_iconst d_LP_within_10 <| j_goto d_LP_within_11 <| j_zreturn' d_LP_within_15 rfl (Or.inr rfl) <| k2 h)
theorem s_LP_within_10 {G : j_G} {d B S N : Nat} {K : Nat → Option (Nat × Nat)} {M : Nat → Int → Int} {g : Nat → Int → Option Nat} {Q : j_O → j_S → Prop} {x0 x1 x2 : Int}  (k1 : Q (.inl (some (ji_ 1))) (N, K, M, g)) : j_J G jm_LP_within d B S 10 [ji_ x0, ji_ x1, ji_ x2] [] (N, K, M, g) Q :=
  j_iconst d_LP_within_10 <| j_goto d_LP_within_11 (j_zreturn' d_LP_within_15 rfl (Or.inr rfl) <| k1)
theorem s_LP_within_14 {G : j_G} {d B S N : Nat} {K : Nat → Option (Nat × Nat)} {M : Nat → Int → Int} {g : Nat → Int → Option Nat} {Q : j_O → j_S → Prop} {x0 x1 x2 : Int}  (k1 : Q (.inl (some (ji_ 0))) (N, K, M, g)) : j_J G jm_LP_within d B S 14 [ji_ x0, ji_ x1, ji_ x2] [] (N, K, M, g) Q :=
  j_iconst d_LP_within_14 <| (j_zreturn' d_LP_within_15 rfl (Or.inl rfl) <| k1)
theorem s_LP_within_15 {G : j_G} {d B S N : Nat} {K : Nat → Option (Nat × Nat)} {M : Nat → Int → Int} {g : Nat → Int → Option Nat} {Q : j_O → j_S → Prop} {x0 x1 x2 t0 : Int} (hz1 : t0 = 0 ∨ t0 = 1) (k1 : Q (.inl (some (ji_ t0))) (N, K, M, g)) : j_J G jm_LP_within d B S 15 [ji_ x0, ji_ x1, ji_ x2] [ji_ t0] (N, K, M, g) Q :=
  j_zreturn' d_LP_within_15 rfl hz1 k1
theorem s_LP_isLetter_0 {G : j_G} {d B S N : Nat} {K : Nat → Option (Nat × Nat)} {M : Nat → Int → Int} {g : Nat → Int → Option Nat} {Q : j_O → j_S → Prop} {x0 : Int} {q : Int → (Nat → Int → Int) → Prop} (hC : j_Ct G jm_LP_within d 0 0 [ji_ x0, ji_ 97, ji_ 122] (N, K, M, g) (j_pI N K g q)) (k1 : ∀ z M', q z M' → j_J G jm_LP_isLetter (d + 1) B S 8 [ji_ x0] [ji_ z] (N, K, M', g) Q) : j_J G jm_LP_isLetter (d + 1) B S 0 [ji_ x0] [] (N, K, M, g) Q :=
  j_iload_n d_LP_isLetter_0 rfl <| j_bipush d_LP_isLetter_1 (by decide) <| j_bipush d_LP_isLetter_3 (by decide) <| j_aSI (as := [ji_ x0, ji_ 97, ji_ 122]) (rest := []) d_LP_isLetter_5 c_LP_1 rfl (Nat.le_of_ble_eq_true rfl) hC k1
theorem s_LP_isLetter_8 {G : j_G} {d B S N : Nat} {K : Nat → Option (Nat × Nat)} {M : Nat → Int → Int} {g : Nat → Int → Option Nat} {Q : j_O → j_S → Prop} {x0 t0 : Int} (hz1 : t0 = 0 ∨ t0 = 1) (k1 : Q (.inl (some (ji_ t0))) (N, K, M, g)) : j_J G jm_LP_isLetter d B S 8 [ji_ x0] [ji_ t0] (N, K, M, g) Q :=
  j_zreturn' d_LP_isLetter_8 rfl hz1 k1
theorem s_LP_isText_0 {G : j_G} {d B S N : Nat} {K : Nat → Option (Nat × Nat)} {M : Nat → Int → Int} {g : Nat → Int → Option Nat} {Q : j_O → j_S → Prop} {x0 : Int} {q : Int → (Nat → Int → Int) → Prop} (hC : j_Ct G jm_LP_within d 0 0 [ji_ x0, ji_ 0, ji_ 3] (N, K, M, g) (j_pI N K g q)) (k1 : ∀ z M', q z M' → j_J G jm_LP_isText (d + 1) B S 6 [ji_ x0] [ji_ z] (N, K, M', g) Q) : j_J G jm_LP_isText (d + 1) B S 0 [ji_ x0] [] (N, K, M, g) Q :=
  j_iload_n d_LP_isText_0 rfl <| j_iconst d_LP_isText_1 <| j_iconst d_LP_isText_2 <| j_aSI (as := [ji_ x0, ji_ 0, ji_ 3]) (rest := []) d_LP_isText_3 c_LP_1 rfl (Nat.le_of_ble_eq_true rfl) hC k1
theorem s_LP_isText_6 {G : j_G} {d B S N : Nat} {K : Nat → Option (Nat × Nat)} {M : Nat → Int → Int} {g : Nat → Int → Option Nat} {Q : j_O → j_S → Prop} {x0 t0 : Int} (hz1 : t0 = 0 ∨ t0 = 1) (k1 : Q (.inl (some (ji_ t0))) (N, K, M, g)) : j_J G jm_LP_isText d B S 6 [ji_ x0] [ji_ t0] (N, K, M, g) Q :=
  j_zreturn' d_LP_isText_6 rfl hz1 k1
theorem s_Ma_abs_0 {G : j_G} {d B S N : Nat} {K : Nat → Option (Nat × Nat)} {M : Nat → Int → Int} {g : Nat → Int → Option Nat} {Q : j_O → j_S → Prop} {x0 : Int} (r1 : -2147483648 ≤ x0 ∧ x0 ≤ 2147483647 := by omega) (k1 : 0 ≤ x0 → Q (.inl (some (ji_ x0))) (N, K, M, g)) (k2 : x0 < 0 → j_J G jm_Ma_abs d B S 4 [ji_ x0] [] (N, K, M, g) Q) : j_J G jm_Ma_abs d B S 0 [ji_ x0] [] (N, K, M, g) Q :=
  j_iload_n d_Ma_abs_0 rfl <| j_if_ge d_Ma_abs_1 r1 (fun h => j_iload_n d_Ma_abs_9 rfl <| j_ireturn d_Ma_abs_10 rfl <| k1 h) k2
theorem s_Ma_abs_4 {G : j_G} {d B S N : Nat} {K : Nat → Option (Nat × Nat)} {M : Nat → Int → Int} {g : Nat → Int → Option Nat} {Q : j_O → j_S → Prop} {x0 : Int}  (k1 : Q (.inl (some (ji_ (-x0)))) (N, K, M, g)) : j_J G jm_Ma_abs d B S 4 [ji_ x0] [] (N, K, M, g) Q :=
  j_iload_n d_Ma_abs_4 rfl <| j_ineg d_Ma_abs_5 <| j_goto d_Ma_abs_6 (j_ireturn d_Ma_abs_10 rfl <| k1)
theorem s_Ma_abs_9 {G : j_G} {d B S N : Nat} {K : Nat → Option (Nat × Nat)} {M : Nat → Int → Int} {g : Nat → Int → Option Nat} {Q : j_O → j_S → Prop} {x0 : Int}  (k1 : Q (.inl (some (ji_ x0))) (N, K, M, g)) : j_J G jm_Ma_abs d B S 9 [ji_ x0] [] (N, K, M, g) Q :=
  j_iload_n d_Ma_abs_9 rfl <| (j_ireturn d_Ma_abs_10 rfl <| k1)
theorem s_Ma_abs_10 {G : j_G} {d B S N : Nat} {K : Nat → Option (Nat × Nat)} {M : Nat → Int → Int} {g : Nat → Int → Option Nat} {Q : j_O → j_S → Prop} {x0 t0 : Int}  (k1 : Q (.inl (some (ji_ t0))) (N, K, M, g)) : j_J G jm_Ma_abs d B S 10 [ji_ x0] [ji_ t0] (N, K, M, g) Q :=
  j_ireturn d_Ma_abs_10 rfl k1
theorem s_Ma_max_0 {G : j_G} {d B S N : Nat} {K : Nat → Option (Nat × Nat)} {M : Nat → Int → Int} {g : Nat → Int → Option Nat} {Q : j_O → j_S → Prop} {x0 x1 : Int} (r1 : -2147483648 ≤ x0 ∧ x0 ≤ 2147483647 := by omega) (r2 : -2147483648 ≤ x1 ∧ x1 ≤ 2147483647 := by omega) (k1 : x0 < x1 → Q (.inl (some (ji_ x1))) (N, K, M, g)) (k2 : x1 ≤ x0 → Q (.inl (some (ji_ x0))) (N, K, M, g)) : j_J G jm_Ma_max d B S 0 [ji_ x0, ji_ x1] [] (N, K, M, g) Q :=
  j_iload_n d_Ma_max_0 rfl <| j_iload_n d_Ma_max_1 rfl <| j_icmp_lt d_Ma_max_2 r1 r2 (fun h => j_iload_n d_Ma_max_9 rfl <| j_ireturn d_Ma_max_10 rfl <| k1 h) (fun h => j_iload_n d_Ma_max_5 rfl <| j_goto d_Ma_max_6 <| j_ireturn d_Ma_max_10 rfl <| k2 h)
theorem s_Ma_max_5 {G : j_G} {d B S N : Nat} {K : Nat → Option (Nat × Nat)} {M : Nat → Int → Int} {g : Nat → Int → Option Nat} {Q : j_O → j_S → Prop} {x0 x1 : Int}  (k1 : Q (.inl (some (ji_ x0))) (N, K, M, g)) : j_J G jm_Ma_max d B S 5 [ji_ x0, ji_ x1] [] (N, K, M, g) Q :=
  j_iload_n d_Ma_max_5 rfl <| j_goto d_Ma_max_6 (j_ireturn d_Ma_max_10 rfl <| k1)
theorem s_Ma_max_9 {G : j_G} {d B S N : Nat} {K : Nat → Option (Nat × Nat)} {M : Nat → Int → Int} {g : Nat → Int → Option Nat} {Q : j_O → j_S → Prop} {x0 x1 : Int}  (k1 : Q (.inl (some (ji_ x1))) (N, K, M, g)) : j_J G jm_Ma_max d B S 9 [ji_ x0, ji_ x1] [] (N, K, M, g) Q :=
  j_iload_n d_Ma_max_9 rfl <| (j_ireturn d_Ma_max_10 rfl <| k1)
theorem s_Ma_max_10 {G : j_G} {d B S N : Nat} {K : Nat → Option (Nat × Nat)} {M : Nat → Int → Int} {g : Nat → Int → Option Nat} {Q : j_O → j_S → Prop} {x0 x1 t0 : Int}  (k1 : Q (.inl (some (ji_ t0))) (N, K, M, g)) : j_J G jm_Ma_max d B S 10 [ji_ x0, ji_ x1] [ji_ t0] (N, K, M, g) Q :=
  j_ireturn d_Ma_max_10 rfl k1
theorem s_Ma_min_0 {G : j_G} {d B S N : Nat} {K : Nat → Option (Nat × Nat)} {M : Nat → Int → Int} {g : Nat → Int → Option Nat} {Q : j_O → j_S → Prop} {x0 x1 : Int} (r1 : -2147483648 ≤ x0 ∧ x0 ≤ 2147483647 := by omega) (r2 : -2147483648 ≤ x1 ∧ x1 ≤ 2147483647 := by omega) (k1 : x1 < x0 → Q (.inl (some (ji_ x1))) (N, K, M, g)) (k2 : x0 ≤ x1 → Q (.inl (some (ji_ x0))) (N, K, M, g)) : j_J G jm_Ma_min d B S 0 [ji_ x0, ji_ x1] [] (N, K, M, g) Q :=
  j_iload_n d_Ma_min_0 rfl <| j_iload_n d_Ma_min_1 rfl <| j_icmp_gt d_Ma_min_2 r1 r2 (fun h => j_iload_n d_Ma_min_9 rfl <| j_ireturn d_Ma_min_10 rfl <| k1 h) (fun h => j_iload_n d_Ma_min_5 rfl <| j_goto d_Ma_min_6 <| j_ireturn d_Ma_min_10 rfl <| k2 h)
theorem s_Ma_min_5 {G : j_G} {d B S N : Nat} {K : Nat → Option (Nat × Nat)} {M : Nat → Int → Int} {g : Nat → Int → Option Nat} {Q : j_O → j_S → Prop} {x0 x1 : Int}  (k1 : Q (.inl (some (ji_ x0))) (N, K, M, g)) : j_J G jm_Ma_min d B S 5 [ji_ x0, ji_ x1] [] (N, K, M, g) Q :=
  j_iload_n d_Ma_min_5 rfl <| j_goto d_Ma_min_6 (j_ireturn d_Ma_min_10 rfl <| k1)
theorem s_Ma_min_9 {G : j_G} {d B S N : Nat} {K : Nat → Option (Nat × Nat)} {M : Nat → Int → Int} {g : Nat → Int → Option Nat} {Q : j_O → j_S → Prop} {x0 x1 : Int}  (k1 : Q (.inl (some (ji_ x1))) (N, K, M, g)) : j_J G jm_Ma_min d B S 9 [ji_ x0, ji_ x1] [] (N, K, M, g) Q :=
  j_iload_n d_Ma_min_9 rfl <| (j_ireturn d_Ma_min_10 rfl <| k1)
theorem s_Ma_min_10 {G : j_G} {d B S N : Nat} {K : Nat → Option (Nat × Nat)} {M : Nat → Int → Int} {g : Nat → Int → Option Nat} {Q : j_O → j_S → Prop} {x0 x1 t0 : Int}  (k1 : Q (.inl (some (ji_ t0))) (N, K, M, g)) : j_J G jm_Ma_min d B S 10 [ji_ x0, ji_ x1] [ji_ t0] (N, K, M, g) Q :=
  j_ireturn d_Ma_min_10 rfl k1
theorem s_Tx_isPlain_0 {G : j_G} {d B S N : Nat} {K : Nat → Option (Nat × Nat)} {M : Nat → Int → Int} {g : Nat → Int → Option Nat} {Q : j_O → j_S → Prop} {a0 : Nat} {u1 u2 : j_V}  (k1 : j_J G jm_Tx_isPlain d B S 4 [jr_ a0, ji_ 1, ji_ 0] [] (N, K, M, g) Q) : j_J G jm_Tx_isPlain d B S 0 [jr_ a0, u1, u2] [] (N, K, M, g) Q :=
  j_iconst d_Tx_isPlain_0 <| j_istore_n d_Tx_isPlain_1 rfl rfl <| j_iconst d_Tx_isPlain_2 <| j_istore_n d_Tx_isPlain_3 rfl rfl <| k1
theorem s_Tx_isPlain_4 {G : j_G} {d B S N : Nat} {K : Nat → Option (Nat × Nat)} {M : Nat → Int → Int} {g : Nat → Int → Option Nat} {Q : j_O → j_S → Prop} {a0 : Nat} {x1 x2 : Int} (hk1 : K a0 = some (0, 1)) (r1 : -2147483648 ≤ x2 ∧ x2 ≤ 2147483647 := by omega) (r2 : -2147483648 ≤ (M a0 1) ∧ (M a0 1) ≤ 2147483647 := by omega) (k1 : (M a0 1) ≤ x2 → j_J G jm_Tx_isPlain d B S 30 [jr_ a0, ji_ x1, ji_ x2] [] (N, K, M, g) Q) (k2 : x2 < (M a0 1) → j_J G jm_Tx_isPlain d B S 12 [jr_ a0, ji_ x1, ji_ x2] [] (N, K, M, g) Q) : j_J G jm_Tx_isPlain d B S 4 [jr_ a0, ji_ x1, ji_ x2] [] (N, K, M, g) Q :=
  j_iload_n d_Tx_isPlain_4 rfl <| j_aload_n d_Tx_isPlain_5 rfl <| j_getI d_Tx_isPlain_6 f_Tx_15 hk1 <| j_icmp_ge d_Tx_isPlain_9 r1 r2 k1 k2
theorem s_Tx_isPlain_12 {G : j_G} {d B S N : Nat} {K : Nat → Option (Nat × Nat)} {M : Nat → Int → Int} {g : Nat → Int → Option Nat} {Q : j_O → j_S → Prop} {a0 y1 n2 : Nat} {x1 x2 : Int} {q : Int → (Nat → Int → Int) → Prop} (hk1 : K a0 = some (0, 1)) (hg2 : g a0 0 = some y1) (hk2 : K y1 = some (2, n2)) (r3 : 0 ≤ x2 := by omega) (r3' : x2 < (n2 : Int) := by omega) (hC : j_Ct G jm_LP_isLetter d 0 0 [ji_ (M y1 x2)] (N, K, M, g) (j_pI N K g q)) (k1 : ∀ z M', q z M' → j_J G jm_Tx_isPlain (d + 1) B S 22 [jr_ a0, ji_ x1, ji_ x2] [ji_ z, ji_ x1] (N, K, M', g) Q) : j_J G jm_Tx_isPlain (d + 1) B S 12 [jr_ a0, ji_ x1, ji_ x2] [] (N, K, M, g) Q :=
  j_iload_n d_Tx_isPlain_12 rfl <| j_aload_n d_Tx_isPlain_13 rfl <| j_getR d_Tx_isPlain_14 f_Tx_9 hk1 hg2 <| j_iload_n d_Tx_isPlain_17 rfl <| j_bald d_Tx_isPlain_18 hk2 r3 r3' <| j_aSI (as := [ji_ (M y1 x2)]) (rest := [ji_ x1]) d_Tx_isPlain_19 c_Tx_19 rfl (Nat.le_of_ble_eq_true rfl) hC k1
theorem s_Tx_isPlain_22 {G : j_G} {d B S N : Nat} {K : Nat → Option (Nat × Nat)} {M : Nat → Int → Int} {g : Nat → Int → Option Nat} {Q : j_O → j_S → Prop} {a0 : Nat} {x1 x2 t0 t1 : Int} {c0 c1 : Bool} (he1 : t0 = j_bz c0) (he2 : t1 = j_bz c1) (k1 : j_J G jm_Tx_isPlain d B S 4 [jr_ a0, ji_ (j_bz (c0 && c1)), ji_ (x2 + 1)] [] (N, K, M, g) Q) : j_J G jm_Tx_isPlain d B S 22 [jr_ a0, ji_ x1, ji_ x2] [ji_ t1, ji_ t0] (N, K, M, g) Q :=
  j_iandB' d_Tx_isPlain_22 he1 he2 <| j_istore_n d_Tx_isPlain_23 rfl rfl <| j_iinc d_Tx_isPlain_24 rfl rfl rfl <| j_goto d_Tx_isPlain_27 k1
theorem s_Tx_isPlain_30 {G : j_G} {d B S N : Nat} {K : Nat → Option (Nat × Nat)} {M : Nat → Int → Int} {g : Nat → Int → Option Nat} {Q : j_O → j_S → Prop} {a0 : Nat} {x1 x2 : Int} (hz1 : x1 = 0 ∨ x1 = 1) (k1 : Q (.inl (some (ji_ x1))) (N, K, M, g)) : j_J G jm_Tx_isPlain d B S 30 [jr_ a0, ji_ x1, ji_ x2] [] (N, K, M, g) Q :=
  j_iload_n d_Tx_isPlain_30 rfl <| j_zreturn' d_Tx_isPlain_31 rfl hz1 k1
theorem s_Tx_copy_0 {G : j_G} {d B S N : Nat} {K : Nat → Option (Nat × Nat)} {M : Nat → Int → Int} {g : Nat → Int → Option Nat} {Q : j_O → j_S → Prop} {a0 a1 y1 y3 n3 n4 : Nat} (hk1 : K a1 = some (0, 1)) (hg2 : g a1 0 = some y1) (hk2 : K a0 = some (0, 1)) (hg4 : g a0 0 = some y3) (hk3 : K y1 = some (2, n3)) (hk4 : K y3 = some (2, n4)) (r5 : (0 : Int) ≤ 0 ∧ (0 : Int) ≤ 0 ∧ (0 : Int) ≤ 24 ∧ 0 + 24 ≤ (n3 : Int) ∧ 0 + 24 ≤ (n4 : Int) := by omega) (hv6 : ∀ i : Int, 0 ≤ i → i < 0 + 24 → -128 ≤ M y1 i ∧ M y1 i ≤ 127) (k1 : j_J G jm_Tx_copy (d + 1) B S 15 [jr_ a0, jr_ a1] [] (N, K, (j_cpy M y1 y3 0 0 24), g) Q) : j_J G jm_Tx_copy (d + 1) B S 0 [jr_ a0, jr_ a1] [] (N, K, M, g) Q :=
  j_aload_n d_Tx_copy_0 rfl <| j_getR d_Tx_copy_1 f_Tx_9 hk1 hg2 <| j_iconst d_Tx_copy_4 <| j_aload_n d_Tx_copy_5 rfl <| j_getR d_Tx_copy_6 f_Tx_9 hk2 hg4 <| j_iconst d_Tx_copy_9 <| j_bipush d_Tx_copy_10 (by decide) <| j_copyB d_Tx_copy_12 (by decide +kernel) hk3 hk4 r5 hv6 (Nat.le_of_ble_eq_true rfl) <| k1
theorem s_Tx_copy_15 {G : j_G} {d B S N : Nat} {K : Nat → Option (Nat × Nat)} {M : Nat → Int → Int} {g : Nat → Int → Option Nat} {Q : j_O → j_S → Prop} {a0 a1 : Nat} (hk1 : K a1 = some (0, 1)) (hk2 : K a0 = some (0, 1)) (k1 : Q (.inl none) (N, K, (j_up M a0 1 (M a1 1)), g)) : j_J G jm_Tx_copy d B S 15 [jr_ a0, jr_ a1] [] (N, K, M, g) Q :=
  j_aload_n d_Tx_copy_15 rfl <| j_aload_n d_Tx_copy_16 rfl <| j_getI d_Tx_copy_17 f_Tx_15 hk1 <| j_putI d_Tx_copy_20 f_Tx_15 (⟨_, rfl, Or.inl rfl⟩) rfl hk2 <| j_vreturn d_Tx_copy_23 rfl k1
theorem s_Tx_add_0 {G : j_G} {d B S N : Nat} {K : Nat → Option (Nat × Nat)} {M : Nat → Int → Int} {g : Nat → Int → Option Nat} {Q : j_O → j_S → Prop} {a0 : Nat} {x1 : Int} (hk1 : K a0 = some (0, 1)) (r1 : -2147483648 ≤ (M a0 1) ∧ (M a0 1) ≤ 2147483647 := by omega) (k1 : (M a0 1) ≠ 24 → j_J G jm_Tx_add d B S 11 [jr_ a0, ji_ x1] [] (N, K, M, g) Q) (k2 : (M a0 1) = 24 → Q (.inl (some (ji_ 0))) (N, K, M, g)) : j_J G jm_Tx_add d B S 0 [jr_ a0, ji_ x1] [] (N, K, M, g) Q :=
  j_aload_n d_Tx_add_0 rfl <| j_getI d_Tx_add_1 f_Tx_15 hk1 <| j_bipush d_Tx_add_4 (by decide) <| j_icmp_ne d_Tx_add_6 r1 (by decide) k1 (fun h => j_iconst d_Tx_add_9 <| j_zreturn' d_Tx_add_10 rfl (Or.inl rfl) <| k2 h)
theorem s_Tx_add_9 {G : j_G} {d B S N : Nat} {K : Nat → Option (Nat × Nat)} {M : Nat → Int → Int} {g : Nat → Int → Option Nat} {Q : j_O → j_S → Prop} {a0 : Nat} {x1 : Int}  (k1 : Q (.inl (some (ji_ 0))) (N, K, M, g)) : j_J G jm_Tx_add d B S 9 [jr_ a0, ji_ x1] [] (N, K, M, g) Q :=
  j_iconst d_Tx_add_9 <| j_zreturn' d_Tx_add_10 rfl (Or.inl rfl) k1
theorem s_Tx_add_11 {G : j_G} {d B S N : Nat} {K : Nat → Option (Nat × Nat)} {M : Nat → Int → Int} {g : Nat → Int → Option Nat} {Q : j_O → j_S → Prop} {a0 y1 n2 : Nat} {x1 : Int} (hk1 : K a0 = some (0, 1)) (hg2 : g a0 0 = some y1) (hk2 : K y1 = some (2, n2)) (r3 : 0 ≤ (M a0 1) := by omega) (r3' : (M a0 1) < (n2 : Int) := by omega) (r4 : -128 ≤ (Int.bmod x1 256) ∧ (Int.bmod x1 256) ≤ 127 := by omega) (k1 : Q (.inl (some (ji_ 1))) (N, K, (j_up (j_up M a0 1 ((M a0 1) + 1)) y1 (M a0 1) (Int.bmod x1 256)), g)) : j_J G jm_Tx_add d B S 11 [jr_ a0, ji_ x1] [] (N, K, M, g) Q :=
  j_aload_n d_Tx_add_11 rfl <| j_getR d_Tx_add_12 f_Tx_9 hk1 hg2 <| j_aload_n d_Tx_add_15 rfl <| j_dupR d_Tx_add_16 <| j_getI d_Tx_add_17 f_Tx_15 hk1 <| j_dup_x1IR d_Tx_add_20 <| j_iconst d_Tx_add_21 <| j_iadd d_Tx_add_22 <| j_putI d_Tx_add_23 f_Tx_15 (⟨_, rfl, Or.inl rfl⟩) rfl hk1 <| j_iload_n d_Tx_add_26 rfl <| j_i2b d_Tx_add_27 <| j_bast d_Tx_add_28 hk2 r3 r3' r4 <| j_iconst d_Tx_add_29 <| j_zreturn' d_Tx_add_30 rfl (Or.inr rfl) k1
theorem s_Tx_addAll_0 {G : j_G} {d B S N : Nat} {K : Nat → Option (Nat × Nat)} {M : Nat → Int → Int} {g : Nat → Int → Option Nat} {Q : j_O → j_S → Prop} {a0 a1 : Nat} {x2 x3 : Int} {u4 u5 : j_V}  (k1 : j_J G jm_Tx_addAll d B S 6 [jr_ a0, jr_ a1, ji_ x2, ji_ x3, ji_ 1, ji_ x2] [] (N, K, M, g) Q) : j_J G jm_Tx_addAll d B S 0 [jr_ a0, jr_ a1, ji_ x2, ji_ x3, u4, u5] [] (N, K, M, g) Q :=
  j_iconst d_Tx_addAll_0 <| j_istore d_Tx_addAll_1 rfl rfl <| j_iload_n d_Tx_addAll_3 rfl <| j_istore d_Tx_addAll_4 rfl rfl <| k1
theorem s_Tx_addAll_6 {G : j_G} {d B S N : Nat} {K : Nat → Option (Nat × Nat)} {M : Nat → Int → Int} {g : Nat → Int → Option Nat} {Q : j_O → j_S → Prop} {a0 a1 : Nat} {x2 x3 x4 x5 : Int} (r1 : -2147483648 ≤ x5 ∧ x5 ≤ 2147483647 := by omega) (r2 : -2147483648 ≤ x3 ∧ x3 ≤ 2147483647 := by omega) (k1 : x3 ≤ x5 → j_J G jm_Tx_addAll d B S 34 [jr_ a0, jr_ a1, ji_ x2, ji_ x3, ji_ x4, ji_ x5] [] (N, K, M, g) Q) (k2 : x5 < x3 → j_J G jm_Tx_addAll d B S 12 [jr_ a0, jr_ a1, ji_ x2, ji_ x3, ji_ x4, ji_ x5] [] (N, K, M, g) Q) : j_J G jm_Tx_addAll d B S 6 [jr_ a0, jr_ a1, ji_ x2, ji_ x3, ji_ x4, ji_ x5] [] (N, K, M, g) Q :=
  j_iload d_Tx_addAll_6 rfl <| j_iload_n d_Tx_addAll_8 rfl <| j_icmp_ge d_Tx_addAll_9 r1 r2 k1 k2
theorem s_Tx_addAll_12 {G : j_G} {d B S N : Nat} {K : Nat → Option (Nat × Nat)} {M : Nat → Int → Int} {g : Nat → Int → Option Nat} {Q : j_O → j_S → Prop} {a0 a1 y1 n2 : Nat} {x2 x3 x4 x5 : Int} {q : Int → (Nat → Int → Int) → Prop} (hk1 : K a1 = some (0, 1)) (hg2 : g a1 0 = some y1) (hk2 : K y1 = some (2, n2)) (r3 : 0 ≤ x5 := by omega) (r3' : x5 < (n2 : Int) := by omega) (hk3 : K a0 = some (0, 1)) (hC : j_Ct G jm_Tx_add d 0 0 [jr_ a0, ji_ (M y1 x5)] (N, K, M, g) (j_pI N K g q)) (k1 : ∀ z M', q z M' → j_J G jm_Tx_addAll (d + 1) B S 25 [jr_ a0, jr_ a1, ji_ x2, ji_ x3, ji_ x4, ji_ x5] [ji_ z, ji_ x4] (N, K, M', g) Q) : j_J G jm_Tx_addAll (d + 1) B S 12 [jr_ a0, jr_ a1, ji_ x2, ji_ x3, ji_ x4, ji_ x5] [] (N, K, M, g) Q :=
  j_iload d_Tx_addAll_12 rfl <| j_aload_n d_Tx_addAll_14 rfl <| j_aload_n d_Tx_addAll_15 rfl <| j_getR d_Tx_addAll_16 f_Tx_9 hk1 hg2 <| j_iload d_Tx_addAll_19 rfl <| j_bald d_Tx_addAll_21 hk2 r3 r3' <| j_aVI (as := [ji_ (M y1 x5)]) (rest := [ji_ x4]) d_Tx_addAll_22 c_Tx_29 hk3 rfl (Nat.le_of_ble_eq_true rfl) hC k1
theorem s_Tx_addAll_25 {G : j_G} {d B S N : Nat} {K : Nat → Option (Nat × Nat)} {M : Nat → Int → Int} {g : Nat → Int → Option Nat} {Q : j_O → j_S → Prop} {a0 a1 : Nat} {x2 x3 x4 x5 t0 t1 : Int} {c0 c1 : Bool} (he1 : t0 = j_bz c0) (he2 : t1 = j_bz c1) (k1 : j_J G jm_Tx_addAll d B S 6 [jr_ a0, jr_ a1, ji_ x2, ji_ x3, ji_ (j_bz (c0 && c1)), ji_ (x5 + 1)] [] (N, K, M, g) Q) : j_J G jm_Tx_addAll d B S 25 [jr_ a0, jr_ a1, ji_ x2, ji_ x3, ji_ x4, ji_ x5] [ji_ t1, ji_ t0] (N, K, M, g) Q :=
  j_iandB' d_Tx_addAll_25 he1 he2 <| j_istore d_Tx_addAll_26 rfl rfl <| j_iinc d_Tx_addAll_28 rfl rfl rfl <| j_goto d_Tx_addAll_31 k1
theorem s_Tx_addAll_34 {G : j_G} {d B S N : Nat} {K : Nat → Option (Nat × Nat)} {M : Nat → Int → Int} {g : Nat → Int → Option Nat} {Q : j_O → j_S → Prop} {a0 a1 : Nat} {x2 x3 x4 x5 : Int} (hz1 : x4 = 0 ∨ x4 = 1) (k1 : Q (.inl (some (ji_ x4))) (N, K, M, g)) : j_J G jm_Tx_addAll d B S 34 [jr_ a0, jr_ a1, ji_ x2, ji_ x3, ji_ x4, ji_ x5] [] (N, K, M, g) Q :=
  j_iload d_Tx_addAll_34 rfl <| j_zreturn' d_Tx_addAll_36 rfl hz1 k1
theorem s_Tx_same_0 {G : j_G} {d B S N : Nat} {K : Nat → Option (Nat × Nat)} {M : Nat → Int → Int} {g : Nat → Int → Option Nat} {Q : j_O → j_S → Prop} {a0 a3 : Nat} {x1 x2 x4 x5 : Int} {u6 u7 : j_V} (r1 : -2147483648 ≤ (x2 - x1) ∧ (x2 - x1) ≤ 2147483647 := by omega) (r2 : -2147483648 ≤ (x5 - x4) ∧ (x5 - x4) ≤ 2147483647 := by omega) (k1 : (x2 - x1) ≠ (x5 - x4) → j_J G jm_Tx_same d B S 21 [jr_ a0, ji_ x1, ji_ x2, jr_ a3, ji_ x4, ji_ x5, ji_ 0, ji_ 0] [] (N, K, M, g) Q) (k2 : (x2 - x1) = (x5 - x4) → j_J G jm_Tx_same d B S 21 [jr_ a0, ji_ x1, ji_ x2, jr_ a3, ji_ x4, ji_ x5, ji_ 1, ji_ 0] [] (N, K, M, g) Q) : j_J G jm_Tx_same d B S 0 [jr_ a0, ji_ x1, ji_ x2, jr_ a3, ji_ x4, ji_ x5, u6, u7] [] (N, K, M, g) Q :=
  j_iload_n d_Tx_same_0 rfl <| j_iload_n d_Tx_same_1 rfl <| j_isub d_Tx_same_2 <| j_iload d_Tx_same_3 rfl <| j_iload d_Tx_same_5 rfl <| j_isub d_Tx_same_7 <| j_icmp_ne d_Tx_same_8 r1 r2 (fun h => j_iconst d_Tx_same_15 <| j_istore d_Tx_same_16 rfl rfl <| j_iconst d_Tx_same_18 <| j_istore d_Tx_same_19 rfl rfl <| k1 h) (fun h => j_iconst d_Tx_same_11 <| j_goto d_Tx_same_12 <| j_istore d_Tx_same_16 rfl rfl <| j_iconst d_Tx_same_18 <| j_istore d_Tx_same_19 rfl rfl <| k2 h)
theorem s_Tx_same_11 {G : j_G} {d B S N : Nat} {K : Nat → Option (Nat × Nat)} {M : Nat → Int → Int} {g : Nat → Int → Option Nat} {Q : j_O → j_S → Prop} {a0 a3 : Nat} {x1 x2 x4 x5 : Int} {u6 u7 : j_V}  (k1 : j_J G jm_Tx_same d B S 21 [jr_ a0, ji_ x1, ji_ x2, jr_ a3, ji_ x4, ji_ x5, ji_ 1, ji_ 0] [] (N, K, M, g) Q) : j_J G jm_Tx_same d B S 11 [jr_ a0, ji_ x1, ji_ x2, jr_ a3, ji_ x4, ji_ x5, u6, u7] [] (N, K, M, g) Q :=
  j_iconst d_Tx_same_11 <| j_goto d_Tx_same_12 (j_istore d_Tx_same_16 rfl rfl <| j_iconst d_Tx_same_18 <| j_istore d_Tx_same_19 rfl rfl <| k1)
theorem s_Tx_same_15 {G : j_G} {d B S N : Nat} {K : Nat → Option (Nat × Nat)} {M : Nat → Int → Int} {g : Nat → Int → Option Nat} {Q : j_O → j_S → Prop} {a0 a3 : Nat} {x1 x2 x4 x5 : Int} {u6 u7 : j_V}  (k1 : j_J G jm_Tx_same d B S 21 [jr_ a0, ji_ x1, ji_ x2, jr_ a3, ji_ x4, ji_ x5, ji_ 0, ji_ 0] [] (N, K, M, g) Q) : j_J G jm_Tx_same d B S 15 [jr_ a0, ji_ x1, ji_ x2, jr_ a3, ji_ x4, ji_ x5, u6, u7] [] (N, K, M, g) Q :=
  j_iconst d_Tx_same_15 <| (j_istore d_Tx_same_16 rfl rfl <| j_iconst d_Tx_same_18 <| j_istore d_Tx_same_19 rfl rfl <| k1)
theorem s_Tx_same_16 {G : j_G} {d B S N : Nat} {K : Nat → Option (Nat × Nat)} {M : Nat → Int → Int} {g : Nat → Int → Option Nat} {Q : j_O → j_S → Prop} {a0 a3 : Nat} {x1 x2 x4 x5 t0 : Int} {u6 u7 : j_V}  (k1 : j_J G jm_Tx_same d B S 21 [jr_ a0, ji_ x1, ji_ x2, jr_ a3, ji_ x4, ji_ x5, ji_ t0, ji_ 0] [] (N, K, M, g) Q) : j_J G jm_Tx_same d B S 16 [jr_ a0, ji_ x1, ji_ x2, jr_ a3, ji_ x4, ji_ x5, u6, u7] [ji_ t0] (N, K, M, g) Q :=
  j_istore d_Tx_same_16 rfl rfl <| j_iconst d_Tx_same_18 <| j_istore d_Tx_same_19 rfl rfl <| k1
theorem s_Tx_same_21 {G : j_G} {d B S N : Nat} {K : Nat → Option (Nat × Nat)} {M : Nat → Int → Int} {g : Nat → Int → Option Nat} {Q : j_O → j_S → Prop} {a0 a3 : Nat} {x1 x2 x4 x5 x6 x7 : Int} (r1 : -2147483648 ≤ x7 ∧ x7 ≤ 2147483647 := by omega) (r2 : -2147483648 ≤ (x2 - x1) ∧ (x2 - x1) ≤ 2147483647 := by omega) (k1 : (x2 - x1) ≤ x7 → j_J G jm_Tx_same d B S 69 [jr_ a0, ji_ x1, ji_ x2, jr_ a3, ji_ x4, ji_ x5, ji_ x6, ji_ x7] [] (N, K, M, g) Q) (k2 : x7 < (x2 - x1) → j_J G jm_Tx_same d B S 29 [jr_ a0, ji_ x1, ji_ x2, jr_ a3, ji_ x4, ji_ x5, ji_ x6, ji_ x7] [] (N, K, M, g) Q) : j_J G jm_Tx_same d B S 21 [jr_ a0, ji_ x1, ji_ x2, jr_ a3, ji_ x4, ji_ x5, ji_ x6, ji_ x7] [] (N, K, M, g) Q :=
  j_iload d_Tx_same_21 rfl <| j_iload_n d_Tx_same_23 rfl <| j_iload_n d_Tx_same_24 rfl <| j_isub d_Tx_same_25 <| j_icmp_ge d_Tx_same_26 r1 r2 k1 k2
theorem s_Tx_same_29 {G : j_G} {d B S N : Nat} {K : Nat → Option (Nat × Nat)} {M : Nat → Int → Int} {g : Nat → Int → Option Nat} {Q : j_O → j_S → Prop} {a0 a3 : Nat} {x1 x2 x4 x5 x6 x7 : Int} (r1 : -2147483648 ≤ x6 ∧ x6 ≤ 2147483647 := by omega) (k1 : x6 = 0 → j_J G jm_Tx_same d B S 69 [jr_ a0, ji_ x1, ji_ x2, jr_ a3, ji_ x4, ji_ x5, ji_ x6, ji_ x7] [] (N, K, M, g) Q) (k2 : x6 ≠ 0 → j_J G jm_Tx_same d B S 34 [jr_ a0, ji_ x1, ji_ x2, jr_ a3, ji_ x4, ji_ x5, ji_ x6, ji_ x7] [] (N, K, M, g) Q) : j_J G jm_Tx_same d B S 29 [jr_ a0, ji_ x1, ji_ x2, jr_ a3, ji_ x4, ji_ x5, ji_ x6, ji_ x7] [] (N, K, M, g) Q :=
  j_iload d_Tx_same_29 rfl <| j_if_eq d_Tx_same_31 r1 k1 k2
theorem s_Tx_same_34 {G : j_G} {d B S N : Nat} {K : Nat → Option (Nat × Nat)} {M : Nat → Int → Int} {g : Nat → Int → Option Nat} {Q : j_O → j_S → Prop} {a0 a3 y1 n2 y4 n4 : Nat} {x1 x2 x4 x5 x6 x7 : Int} (hk1 : K a0 = some (0, 1)) (hg2 : g a0 0 = some y1) (hk2 : K y1 = some (2, n2)) (r3 : 0 ≤ (x1 + x7) := by omega) (r3' : (x1 + x7) < (n2 : Int) := by omega) (hk3 : K a3 = some (0, 1)) (hg5 : g a3 0 = some y4) (hk4 : K y4 = some (2, n4)) (r6 : 0 ≤ (x4 + x7) := by omega) (r6' : (x4 + x7) < (n4 : Int) := by omega) (r7 : -2147483648 ≤ (M y1 (x1 + x7)) ∧ (M y1 (x1 + x7)) ≤ 2147483647 := by omega) (r8 : -2147483648 ≤ (M y4 (x4 + x7)) ∧ (M y4 (x4 + x7)) ≤ 2147483647 := by omega) (k1 : (M y1 (x1 + x7)) ≠ (M y4 (x4 + x7)) → j_J G jm_Tx_same d B S 21 [jr_ a0, ji_ x1, ji_ x2, jr_ a3, ji_ x4, ji_ x5, ji_ 0, ji_ (x7 + 1)] [] (N, K, M, g) Q) (k2 : (M y1 (x1 + x7)) = (M y4 (x4 + x7)) → j_J G jm_Tx_same d B S 21 [jr_ a0, ji_ x1, ji_ x2, jr_ a3, ji_ x4, ji_ x5, ji_ 1, ji_ (x7 + 1)] [] (N, K, M, g) Q) : j_J G jm_Tx_same d B S 34 [jr_ a0, ji_ x1, ji_ x2, jr_ a3, ji_ x4, ji_ x5, ji_ x6, ji_ x7] [] (N, K, M, g) Q :=
  j_aload_n d_Tx_same_34 rfl <| j_getR d_Tx_same_35 f_Tx_9 hk1 hg2 <| j_iload_n d_Tx_same_38 rfl <| j_iload d_Tx_same_39 rfl <| j_iadd d_Tx_same_41 <| j_bald d_Tx_same_42 hk2 r3 r3' <| j_aload_n d_Tx_same_43 rfl <| j_getR d_Tx_same_44 f_Tx_9 hk3 hg5 <| j_iload d_Tx_same_47 rfl <| j_iload d_Tx_same_49 rfl <| j_iadd d_Tx_same_51 <| j_bald d_Tx_same_52 hk4 r6 r6' <| j_icmp_ne d_Tx_same_53 r7 r8 (fun h => j_iconst d_Tx_same_60 <| j_istore d_Tx_same_61 rfl rfl <| j_iinc d_Tx_same_63 rfl rfl rfl <| j_goto d_Tx_same_66 <| k1 h) (fun h => j_iconst d_Tx_same_56 <| j_goto d_Tx_same_57 <| j_istore d_Tx_same_61 rfl rfl <| j_iinc d_Tx_same_63 rfl rfl rfl <| j_goto d_Tx_same_66 <| k2 h)
theorem s_Tx_same_56 {G : j_G} {d B S N : Nat} {K : Nat → Option (Nat × Nat)} {M : Nat → Int → Int} {g : Nat → Int → Option Nat} {Q : j_O → j_S → Prop} {a0 a3 : Nat} {x1 x2 x4 x5 x6 x7 : Int}  (k1 : j_J G jm_Tx_same d B S 21 [jr_ a0, ji_ x1, ji_ x2, jr_ a3, ji_ x4, ji_ x5, ji_ 1, ji_ (x7 + 1)] [] (N, K, M, g) Q) : j_J G jm_Tx_same d B S 56 [jr_ a0, ji_ x1, ji_ x2, jr_ a3, ji_ x4, ji_ x5, ji_ x6, ji_ x7] [] (N, K, M, g) Q :=
  j_iconst d_Tx_same_56 <| j_goto d_Tx_same_57 (j_istore d_Tx_same_61 rfl rfl <| j_iinc d_Tx_same_63 rfl rfl rfl <| j_goto d_Tx_same_66 <| k1)
theorem s_Tx_same_60 {G : j_G} {d B S N : Nat} {K : Nat → Option (Nat × Nat)} {M : Nat → Int → Int} {g : Nat → Int → Option Nat} {Q : j_O → j_S → Prop} {a0 a3 : Nat} {x1 x2 x4 x5 x6 x7 : Int}  (k1 : j_J G jm_Tx_same d B S 21 [jr_ a0, ji_ x1, ji_ x2, jr_ a3, ji_ x4, ji_ x5, ji_ 0, ji_ (x7 + 1)] [] (N, K, M, g) Q) : j_J G jm_Tx_same d B S 60 [jr_ a0, ji_ x1, ji_ x2, jr_ a3, ji_ x4, ji_ x5, ji_ x6, ji_ x7] [] (N, K, M, g) Q :=
  j_iconst d_Tx_same_60 <| (j_istore d_Tx_same_61 rfl rfl <| j_iinc d_Tx_same_63 rfl rfl rfl <| j_goto d_Tx_same_66 <| k1)
theorem s_Tx_same_61 {G : j_G} {d B S N : Nat} {K : Nat → Option (Nat × Nat)} {M : Nat → Int → Int} {g : Nat → Int → Option Nat} {Q : j_O → j_S → Prop} {a0 a3 : Nat} {x1 x2 x4 x5 x6 x7 t0 : Int}  (k1 : j_J G jm_Tx_same d B S 21 [jr_ a0, ji_ x1, ji_ x2, jr_ a3, ji_ x4, ji_ x5, ji_ t0, ji_ (x7 + 1)] [] (N, K, M, g) Q) : j_J G jm_Tx_same d B S 61 [jr_ a0, ji_ x1, ji_ x2, jr_ a3, ji_ x4, ji_ x5, ji_ x6, ji_ x7] [ji_ t0] (N, K, M, g) Q :=
  j_istore d_Tx_same_61 rfl rfl <| j_iinc d_Tx_same_63 rfl rfl rfl <| j_goto d_Tx_same_66 k1
theorem s_Tx_same_69 {G : j_G} {d B S N : Nat} {K : Nat → Option (Nat × Nat)} {M : Nat → Int → Int} {g : Nat → Int → Option Nat} {Q : j_O → j_S → Prop} {a0 a3 : Nat} {x1 x2 x4 x5 x6 x7 : Int} (hz1 : x6 = 0 ∨ x6 = 1) (k1 : Q (.inl (some (ji_ x6))) (N, K, M, g)) : j_J G jm_Tx_same d B S 69 [jr_ a0, ji_ x1, ji_ x2, jr_ a3, ji_ x4, ji_ x5, ji_ x6, ji_ x7] [] (N, K, M, g) Q :=
  j_iload d_Tx_same_69 rfl <| j_zreturn' d_Tx_same_71 rfl hz1 k1
