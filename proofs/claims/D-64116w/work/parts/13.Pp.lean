/-! decode facts, pool facts and segments: Pp_put, Pp_number, Pp_look, Pp_expect, Pp_readNumber, Pp_readLine, Pp_readHunk (printed by gen/mk.py) -/
theorem d_Pp_put_0 : j_D jm_Pp_put 0 (.aload_n 0) 1 1 := ⟨by decide +kernel, rfl⟩
theorem d_Pp_put_1 : j_D jm_Pp_put 1 (.getfield 9) 3 4 := ⟨by decide +kernel, rfl⟩
theorem d_Pp_put_4 : j_D jm_Pp_put 4 (.aload_n 0) 1 5 := ⟨by decide +kernel, rfl⟩
theorem d_Pp_put_5 : j_D jm_Pp_put 5 .dup 1 6 := ⟨by decide +kernel, rfl⟩
theorem d_Pp_put_6 : j_D jm_Pp_put 6 (.getfield 15) 3 9 := ⟨by decide +kernel, rfl⟩
theorem d_Pp_put_9 : j_D jm_Pp_put 9 .dup_x1 1 10 := ⟨by decide +kernel, rfl⟩
theorem d_Pp_put_10 : j_D jm_Pp_put 10 (.iconst 1) 1 11 := ⟨by decide +kernel, rfl⟩
theorem d_Pp_put_11 : j_D jm_Pp_put 11 .iadd 1 12 := ⟨by decide +kernel, rfl⟩
theorem d_Pp_put_12 : j_D jm_Pp_put 12 (.putfield 15) 3 15 := ⟨by decide +kernel, rfl⟩
theorem d_Pp_put_15 : j_D jm_Pp_put 15 (.iload_n 1) 1 16 := ⟨by decide +kernel, rfl⟩
theorem d_Pp_put_16 : j_D jm_Pp_put 16 .i2b 1 17 := ⟨by decide +kernel, rfl⟩
theorem d_Pp_put_17 : j_D jm_Pp_put 17 .bastore 1 18 := ⟨by decide +kernel, rfl⟩
theorem d_Pp_put_18 : j_D jm_Pp_put 18 .return_ 1 19 := ⟨by decide +kernel, rfl⟩
theorem d_Pp_number_0 : j_D jm_Pp_number 0 (.iload_n 1) 1 1 := ⟨by decide +kernel, rfl⟩
theorem d_Pp_number_1 : j_D jm_Pp_number 1 (.bipush 10) 2 3 := ⟨by decide +kernel, rfl⟩
theorem d_Pp_number_3 : j_E jm_Pp_number 3 (.if_icmp .lt) 14 6 17 := ⟨by decide +kernel, rfl, by decide⟩
theorem d_Pp_number_6 : j_D jm_Pp_number 6 (.aload_n 0) 1 7 := ⟨by decide +kernel, rfl⟩
theorem d_Pp_number_7 : j_D jm_Pp_number 7 (.bipush 48) 2 9 := ⟨by decide +kernel, rfl⟩
theorem d_Pp_number_9 : j_D jm_Pp_number 9 (.iload_n 1) 1 10 := ⟨by decide +kernel, rfl⟩
theorem d_Pp_number_10 : j_D jm_Pp_number 10 (.bipush 10) 2 12 := ⟨by decide +kernel, rfl⟩
theorem d_Pp_number_12 : j_D jm_Pp_number 12 .idiv 1 13 := ⟨by decide +kernel, rfl⟩
theorem d_Pp_number_13 : j_D jm_Pp_number 13 .iadd 1 14 := ⟨by decide +kernel, rfl⟩
theorem d_Pp_number_14 : j_D jm_Pp_number 14 (.invokevirtual 19) 3 17 := ⟨by decide +kernel, rfl⟩
theorem d_Pp_number_17 : j_D jm_Pp_number 17 (.aload_n 0) 1 18 := ⟨by decide +kernel, rfl⟩
theorem d_Pp_number_18 : j_D jm_Pp_number 18 (.bipush 48) 2 20 := ⟨by decide +kernel, rfl⟩
theorem d_Pp_number_20 : j_D jm_Pp_number 20 (.iload_n 1) 1 21 := ⟨by decide +kernel, rfl⟩
theorem d_Pp_number_21 : j_D jm_Pp_number 21 (.bipush 10) 2 23 := ⟨by decide +kernel, rfl⟩
theorem d_Pp_number_23 : j_D jm_Pp_number 23 .irem 1 24 := ⟨by decide +kernel, rfl⟩
theorem d_Pp_number_24 : j_D jm_Pp_number 24 .iadd 1 25 := ⟨by decide +kernel, rfl⟩
theorem d_Pp_number_25 : j_D jm_Pp_number 25 (.invokevirtual 19) 3 28 := ⟨by decide +kernel, rfl⟩
theorem d_Pp_number_28 : j_D jm_Pp_number 28 .return_ 1 29 := ⟨by decide +kernel, rfl⟩
theorem d_Pp_look_0 : j_D jm_Pp_look 0 (.aload_n 0) 1 1 := ⟨by decide +kernel, rfl⟩
theorem d_Pp_look_1 : j_D jm_Pp_look 1 (.getfield 23) 3 4 := ⟨by decide +kernel, rfl⟩
theorem d_Pp_look_4 : j_D jm_Pp_look 4 (.aload_n 0) 1 5 := ⟨by decide +kernel, rfl⟩
theorem d_Pp_look_5 : j_D jm_Pp_look 5 (.getfield 15) 3 8 := ⟨by decide +kernel, rfl⟩
theorem d_Pp_look_8 : j_E jm_Pp_look 8 (.if_icmp .ge) 15 11 23 := ⟨by decide +kernel, rfl, by decide⟩
theorem d_Pp_look_11 : j_D jm_Pp_look 11 (.aload_n 0) 1 12 := ⟨by decide +kernel, rfl⟩
theorem d_Pp_look_12 : j_D jm_Pp_look 12 (.getfield 9) 3 15 := ⟨by decide +kernel, rfl⟩
theorem d_Pp_look_15 : j_D jm_Pp_look 15 (.aload_n 0) 1 16 := ⟨by decide +kernel, rfl⟩
theorem d_Pp_look_16 : j_D jm_Pp_look 16 (.getfield 23) 3 19 := ⟨by decide +kernel, rfl⟩
theorem d_Pp_look_19 : j_D jm_Pp_look 19 .baload 1 20 := ⟨by decide +kernel, rfl⟩
theorem d_Pp_look_20 : j_E jm_Pp_look 20 .goto 4 23 24 := ⟨by decide +kernel, rfl, by decide⟩
theorem d_Pp_look_23 : j_D jm_Pp_look 23 (.iconst (-1)) 1 24 := ⟨by decide +kernel, rfl⟩
theorem d_Pp_look_24 : j_D jm_Pp_look 24 .ireturn 1 25 := ⟨by decide +kernel, rfl⟩
theorem d_Pp_expect_0 : j_D jm_Pp_expect 0 (.aload_n 0) 1 1 := ⟨by decide +kernel, rfl⟩
theorem d_Pp_expect_1 : j_D jm_Pp_expect 1 (.invokevirtual 33) 3 4 := ⟨by decide +kernel, rfl⟩
theorem d_Pp_expect_4 : j_D jm_Pp_expect 4 (.iload_n 1) 1 5 := ⟨by decide +kernel, rfl⟩
theorem d_Pp_expect_5 : j_E jm_Pp_expect 5 (.if_icmp .eq) 7 8 12 := ⟨by decide +kernel, rfl, by decide⟩
theorem d_Pp_expect_8 : j_D jm_Pp_expect 8 (.aload_n 0) 1 9 := ⟨by decide +kernel, rfl⟩
theorem d_Pp_expect_9 : j_D jm_Pp_expect 9 (.invokevirtual 37) 3 12 := ⟨by decide +kernel, rfl⟩
theorem d_Pp_expect_12 : j_D jm_Pp_expect 12 (.aload_n 0) 1 13 := ⟨by decide +kernel, rfl⟩
theorem d_Pp_expect_13 : j_D jm_Pp_expect 13 .dup 1 14 := ⟨by decide +kernel, rfl⟩
theorem d_Pp_expect_14 : j_D jm_Pp_expect 14 (.getfield 23) 3 17 := ⟨by decide +kernel, rfl⟩
theorem d_Pp_expect_17 : j_D jm_Pp_expect 17 (.iconst 1) 1 18 := ⟨by decide +kernel, rfl⟩
theorem d_Pp_expect_18 : j_D jm_Pp_expect 18 .iadd 1 19 := ⟨by decide +kernel, rfl⟩
theorem d_Pp_expect_19 : j_D jm_Pp_expect 19 (.putfield 23) 3 22 := ⟨by decide +kernel, rfl⟩
theorem d_Pp_expect_22 : j_D jm_Pp_expect 22 .return_ 1 23 := ⟨by decide +kernel, rfl⟩
theorem d_Pp_readNumber_0 : j_D jm_Pp_readNumber 0 (.aload_n 0) 1 1 := ⟨by decide +kernel, rfl⟩
theorem d_Pp_readNumber_1 : j_D jm_Pp_readNumber 1 (.invokevirtual 33) 3 4 := ⟨by decide +kernel, rfl⟩
theorem d_Pp_readNumber_4 : j_D jm_Pp_readNumber 4 (.bipush 48) 2 6 := ⟨by decide +kernel, rfl⟩
theorem d_Pp_readNumber_6 : j_D jm_Pp_readNumber 6 .isub 1 7 := ⟨by decide +kernel, rfl⟩
theorem d_Pp_readNumber_7 : j_D jm_Pp_readNumber 7 (.istore_n 1) 1 8 := ⟨by decide +kernel, rfl⟩
theorem d_Pp_readNumber_8 : j_D jm_Pp_readNumber 8 (.iload_n 1) 1 9 := ⟨by decide +kernel, rfl⟩
theorem d_Pp_readNumber_9 : j_D jm_Pp_readNumber 9 (.iconst 0) 1 10 := ⟨by decide +kernel, rfl⟩
theorem d_Pp_readNumber_10 : j_D jm_Pp_readNumber 10 (.bipush 9) 2 12 := ⟨by decide +kernel, rfl⟩
theorem d_Pp_readNumber_12 : j_D jm_Pp_readNumber 12 (.invokestatic 40) 3 15 := ⟨by decide +kernel, rfl⟩
theorem d_Pp_readNumber_15 : j_E jm_Pp_readNumber 15 (.ifCond .ne) 7 18 22 := ⟨by decide +kernel, rfl, by decide⟩
theorem d_Pp_readNumber_18 : j_D jm_Pp_readNumber 18 (.aload_n 0) 1 19 := ⟨by decide +kernel, rfl⟩
theorem d_Pp_readNumber_19 : j_D jm_Pp_readNumber 19 (.invokevirtual 37) 3 22 := ⟨by decide +kernel, rfl⟩
theorem d_Pp_readNumber_22 : j_D jm_Pp_readNumber 22 (.aload_n 0) 1 23 := ⟨by decide +kernel, rfl⟩
theorem d_Pp_readNumber_23 : j_D jm_Pp_readNumber 23 .dup 1 24 := ⟨by decide +kernel, rfl⟩
theorem d_Pp_readNumber_24 : j_D jm_Pp_readNumber 24 (.getfield 23) 3 27 := ⟨by decide +kernel, rfl⟩
theorem d_Pp_readNumber_27 : j_D jm_Pp_readNumber 27 (.iconst 1) 1 28 := ⟨by decide +kernel, rfl⟩
theorem d_Pp_readNumber_28 : j_D jm_Pp_readNumber 28 .iadd 1 29 := ⟨by decide +kernel, rfl⟩
theorem d_Pp_readNumber_29 : j_D jm_Pp_readNumber 29 (.putfield 23) 3 32 := ⟨by decide +kernel, rfl⟩
theorem d_Pp_readNumber_32 : j_D jm_Pp_readNumber 32 (.aload_n 0) 1 33 := ⟨by decide +kernel, rfl⟩
theorem d_Pp_readNumber_33 : j_D jm_Pp_readNumber 33 (.invokevirtual 33) 3 36 := ⟨by decide +kernel, rfl⟩
theorem d_Pp_readNumber_36 : j_D jm_Pp_readNumber 36 (.bipush 48) 2 38 := ⟨by decide +kernel, rfl⟩
theorem d_Pp_readNumber_38 : j_D jm_Pp_readNumber 38 .isub 1 39 := ⟨by decide +kernel, rfl⟩
theorem d_Pp_readNumber_39 : j_D jm_Pp_readNumber 39 (.istore_n 2) 1 40 := ⟨by decide +kernel, rfl⟩
theorem d_Pp_readNumber_40 : j_D jm_Pp_readNumber 40 (.iload_n 1) 1 41 := ⟨by decide +kernel, rfl⟩
theorem d_Pp_readNumber_41 : j_E jm_Pp_readNumber 41 (.ifCond .eq) 13 44 54 := ⟨by decide +kernel, rfl, by decide⟩
theorem d_Pp_readNumber_44 : j_D jm_Pp_readNumber 44 (.iload_n 2) 1 45 := ⟨by decide +kernel, rfl⟩
theorem d_Pp_readNumber_45 : j_D jm_Pp_readNumber 45 (.iconst 0) 1 46 := ⟨by decide +kernel, rfl⟩
theorem d_Pp_readNumber_46 : j_D jm_Pp_readNumber 46 (.bipush 9) 2 48 := ⟨by decide +kernel, rfl⟩
theorem d_Pp_readNumber_48 : j_D jm_Pp_readNumber 48 (.invokestatic 40) 3 51 := ⟨by decide +kernel, rfl⟩
theorem d_Pp_readNumber_51 : j_E jm_Pp_readNumber 51 (.ifCond .ne) 5 54 56 := ⟨by decide +kernel, rfl, by decide⟩
theorem d_Pp_readNumber_54 : j_D jm_Pp_readNumber 54 (.iload_n 1) 1 55 := ⟨by decide +kernel, rfl⟩
theorem d_Pp_readNumber_55 : j_D jm_Pp_readNumber 55 .ireturn 1 56 := ⟨by decide +kernel, rfl⟩
theorem d_Pp_readNumber_56 : j_D jm_Pp_readNumber 56 (.aload_n 0) 1 57 := ⟨by decide +kernel, rfl⟩
theorem d_Pp_readNumber_57 : j_D jm_Pp_readNumber 57 .dup 1 58 := ⟨by decide +kernel, rfl⟩
theorem d_Pp_readNumber_58 : j_D jm_Pp_readNumber 58 (.getfield 23) 3 61 := ⟨by decide +kernel, rfl⟩
theorem d_Pp_readNumber_61 : j_D jm_Pp_readNumber 61 (.iconst 1) 1 62 := ⟨by decide +kernel, rfl⟩
theorem d_Pp_readNumber_62 : j_D jm_Pp_readNumber 62 .iadd 1 63 := ⟨by decide +kernel, rfl⟩
theorem d_Pp_readNumber_63 : j_D jm_Pp_readNumber 63 (.putfield 23) 3 66 := ⟨by decide +kernel, rfl⟩
theorem d_Pp_readNumber_66 : j_D jm_Pp_readNumber 66 (.bipush 10) 2 68 := ⟨by decide +kernel, rfl⟩
theorem d_Pp_readNumber_68 : j_D jm_Pp_readNumber 68 (.iload_n 1) 1 69 := ⟨by decide +kernel, rfl⟩
theorem d_Pp_readNumber_69 : j_D jm_Pp_readNumber 69 .imul 1 70 := ⟨by decide +kernel, rfl⟩
theorem d_Pp_readNumber_70 : j_D jm_Pp_readNumber 70 (.iload_n 2) 1 71 := ⟨by decide +kernel, rfl⟩
theorem d_Pp_readNumber_71 : j_D jm_Pp_readNumber 71 .iadd 1 72 := ⟨by decide +kernel, rfl⟩
theorem d_Pp_readNumber_72 : j_D jm_Pp_readNumber 72 .ireturn 1 73 := ⟨by decide +kernel, rfl⟩
theorem d_Pp_readLine_0 : j_D jm_Pp_readLine 0 (.aload_n 0) 1 1 := ⟨by decide +kernel, rfl⟩
theorem d_Pp_readLine_1 : j_D jm_Pp_readLine 1 (.invokevirtual 33) 3 4 := ⟨by decide +kernel, rfl⟩
theorem d_Pp_readLine_4 : j_D jm_Pp_readLine 4 (.istore_n 3) 1 5 := ⟨by decide +kernel, rfl⟩
theorem d_Pp_readLine_5 : j_D jm_Pp_readLine 5 (.iload_n 3) 1 6 := ⟨by decide +kernel, rfl⟩
theorem d_Pp_readLine_6 : j_D jm_Pp_readLine 6 (.bipush 32) 2 8 := ⟨by decide +kernel, rfl⟩
theorem d_Pp_readLine_8 : j_E jm_Pp_readLine 8 (.if_icmp .ne) 11 11 19 := ⟨by decide +kernel, rfl, by decide⟩
theorem d_Pp_readLine_11 : j_D jm_Pp_readLine 11 (.iload_n 1) 1 12 := ⟨by decide +kernel, rfl⟩
theorem d_Pp_readLine_12 : j_E jm_Pp_readLine 12 (.ifCond .le) 7 15 19 := ⟨by decide +kernel, rfl, by decide⟩
theorem d_Pp_readLine_15 : j_D jm_Pp_readLine 15 (.iload_n 2) 1 16 := ⟨by decide +kernel, rfl⟩
theorem d_Pp_readLine_16 : j_E jm_Pp_readLine 16 (.ifCond .gt) 23 19 39 := ⟨by decide +kernel, rfl, by decide⟩
theorem d_Pp_readLine_19 : j_D jm_Pp_readLine 19 (.iload_n 3) 1 20 := ⟨by decide +kernel, rfl⟩
theorem d_Pp_readLine_20 : j_D jm_Pp_readLine 20 (.bipush 45) 2 22 := ⟨by decide +kernel, rfl⟩
theorem d_Pp_readLine_22 : j_E jm_Pp_readLine 22 (.if_icmp .ne) 7 25 29 := ⟨by decide +kernel, rfl, by decide⟩
theorem d_Pp_readLine_25 : j_D jm_Pp_readLine 25 (.iload_n 1) 1 26 := ⟨by decide +kernel, rfl⟩
theorem d_Pp_readLine_26 : j_E jm_Pp_readLine 26 (.ifCond .gt) 13 29 39 := ⟨by decide +kernel, rfl, by decide⟩
theorem d_Pp_readLine_29 : j_D jm_Pp_readLine 29 (.iload_n 3) 1 30 := ⟨by decide +kernel, rfl⟩
theorem d_Pp_readLine_30 : j_D jm_Pp_readLine 30 (.bipush 43) 2 32 := ⟨by decide +kernel, rfl⟩
theorem d_Pp_readLine_32 : j_E jm_Pp_readLine 32 (.if_icmp .ne) 11 35 43 := ⟨by decide +kernel, rfl, by decide⟩
theorem d_Pp_readLine_35 : j_D jm_Pp_readLine 35 (.iload_n 2) 1 36 := ⟨by decide +kernel, rfl⟩
theorem d_Pp_readLine_36 : j_E jm_Pp_readLine 36 (.ifCond .le) 7 39 43 := ⟨by decide +kernel, rfl, by decide⟩
theorem d_Pp_readLine_39 : j_D jm_Pp_readLine 39 (.iconst 1) 1 40 := ⟨by decide +kernel, rfl⟩
theorem d_Pp_readLine_40 : j_E jm_Pp_readLine 40 .goto 4 43 44 := ⟨by decide +kernel, rfl, by decide⟩
theorem d_Pp_readLine_43 : j_D jm_Pp_readLine 43 (.iconst 0) 1 44 := ⟨by decide +kernel, rfl⟩
theorem d_Pp_readLine_44 : j_D jm_Pp_readLine 44 (.istore 4) 2 46 := ⟨by decide +kernel, rfl⟩
theorem d_Pp_readLine_46 : j_D jm_Pp_readLine 46 (.iload 4) 2 48 := ⟨by decide +kernel, rfl⟩
theorem d_Pp_readLine_48 : j_E jm_Pp_readLine 48 (.ifCond .ne) 7 51 55 := ⟨by decide +kernel, rfl, by decide⟩
theorem d_Pp_readLine_51 : j_D jm_Pp_readLine 51 (.aload_n 0) 1 52 := ⟨by decide +kernel, rfl⟩
theorem d_Pp_readLine_52 : j_D jm_Pp_readLine 52 (.invokevirtual 37) 3 55 := ⟨by decide +kernel, rfl⟩
theorem d_Pp_readLine_55 : j_D jm_Pp_readLine 55 (.aload_n 0) 1 56 := ⟨by decide +kernel, rfl⟩
theorem d_Pp_readLine_56 : j_D jm_Pp_readLine 56 .dup 1 57 := ⟨by decide +kernel, rfl⟩
theorem d_Pp_readLine_57 : j_D jm_Pp_readLine 57 (.getfield 23) 3 60 := ⟨by decide +kernel, rfl⟩
theorem d_Pp_readLine_60 : j_D jm_Pp_readLine 60 (.iconst 1) 1 61 := ⟨by decide +kernel, rfl⟩
theorem d_Pp_readLine_61 : j_D jm_Pp_readLine 61 .iadd 1 62 := ⟨by decide +kernel, rfl⟩
theorem d_Pp_readLine_62 : j_D jm_Pp_readLine 62 (.putfield 23) 3 65 := ⟨by decide +kernel, rfl⟩
theorem d_Pp_readLine_65 : j_D jm_Pp_readLine 65 (.aload_n 0) 1 66 := ⟨by decide +kernel, rfl⟩
theorem d_Pp_readLine_66 : j_D jm_Pp_readLine 66 (.invokevirtual 33) 3 69 := ⟨by decide +kernel, rfl⟩
theorem d_Pp_readLine_69 : j_D jm_Pp_readLine 69 (.invokestatic 44) 3 72 := ⟨by decide +kernel, rfl⟩
theorem d_Pp_readLine_72 : j_E jm_Pp_readLine 72 (.ifCond .ne) 7 75 79 := ⟨by decide +kernel, rfl, by decide⟩
theorem d_Pp_readLine_75 : j_D jm_Pp_readLine 75 (.aload_n 0) 1 76 := ⟨by decide +kernel, rfl⟩
theorem d_Pp_readLine_76 : j_D jm_Pp_readLine 76 (.invokevirtual 37) 3 79 := ⟨by decide +kernel, rfl⟩
theorem d_Pp_readLine_79 : j_D jm_Pp_readLine 79 (.aload_n 0) 1 80 := ⟨by decide +kernel, rfl⟩
theorem d_Pp_readLine_80 : j_D jm_Pp_readLine 80 .dup 1 81 := ⟨by decide +kernel, rfl⟩
theorem d_Pp_readLine_81 : j_D jm_Pp_readLine 81 (.getfield 23) 3 84 := ⟨by decide +kernel, rfl⟩
theorem d_Pp_readLine_84 : j_D jm_Pp_readLine 84 (.iconst 1) 1 85 := ⟨by decide +kernel, rfl⟩
theorem d_Pp_readLine_85 : j_D jm_Pp_readLine 85 .iadd 1 86 := ⟨by decide +kernel, rfl⟩
theorem d_Pp_readLine_86 : j_D jm_Pp_readLine 86 (.putfield 23) 3 89 := ⟨by decide +kernel, rfl⟩
theorem d_Pp_readLine_89 : j_D jm_Pp_readLine 89 (.aload_n 0) 1 90 := ⟨by decide +kernel, rfl⟩
theorem d_Pp_readLine_90 : j_D jm_Pp_readLine 90 (.bipush 10) 2 92 := ⟨by decide +kernel, rfl⟩
theorem d_Pp_readLine_92 : j_D jm_Pp_readLine 92 (.invokevirtual 48) 3 95 := ⟨by decide +kernel, rfl⟩
theorem d_Pp_readLine_95 : j_D jm_Pp_readLine 95 (.iload_n 3) 1 96 := ⟨by decide +kernel, rfl⟩
theorem d_Pp_readLine_96 : j_D jm_Pp_readLine 96 .ireturn 1 97 := ⟨by decide +kernel, rfl⟩
theorem d_Pp_readHunk_0 : j_D jm_Pp_readHunk 0 (.new 51) 3 3 := ⟨by decide +kernel, rfl⟩
theorem d_Pp_readHunk_3 : j_D jm_Pp_readHunk 3 .dup 1 4 := ⟨by decide +kernel, rfl⟩
theorem d_Pp_readHunk_4 : j_D jm_Pp_readHunk 4 (.invokespecial 53) 3 7 := ⟨by decide +kernel, rfl⟩
theorem d_Pp_readHunk_7 : j_D jm_Pp_readHunk 7 (.astore_n 1) 1 8 := ⟨by decide +kernel, rfl⟩
theorem d_Pp_readHunk_8 : j_D jm_Pp_readHunk 8 (.aload_n 0) 1 9 := ⟨by decide +kernel, rfl⟩
theorem d_Pp_readHunk_9 : j_D jm_Pp_readHunk 9 (.bipush 64) 2 11 := ⟨by decide +kernel, rfl⟩
theorem d_Pp_readHunk_11 : j_D jm_Pp_readHunk 11 (.invokevirtual 48) 3 14 := ⟨by decide +kernel, rfl⟩
theorem d_Pp_readHunk_14 : j_D jm_Pp_readHunk 14 (.aload_n 1) 1 15 := ⟨by decide +kernel, rfl⟩
theorem d_Pp_readHunk_15 : j_D jm_Pp_readHunk 15 (.aload_n 0) 1 16 := ⟨by decide +kernel, rfl⟩
theorem d_Pp_readHunk_16 : j_D jm_Pp_readHunk 16 (.invokevirtual 54) 3 19 := ⟨by decide +kernel, rfl⟩
theorem d_Pp_readHunk_19 : j_D jm_Pp_readHunk 19 (.putfield 57) 3 22 := ⟨by decide +kernel, rfl⟩
theorem d_Pp_readHunk_22 : j_D jm_Pp_readHunk 22 (.aload_n 0) 1 23 := ⟨by decide +kernel, rfl⟩
theorem d_Pp_readHunk_23 : j_D jm_Pp_readHunk 23 (.bipush 44) 2 25 := ⟨by decide +kernel, rfl⟩
theorem d_Pp_readHunk_25 : j_D jm_Pp_readHunk 25 (.invokevirtual 48) 3 28 := ⟨by decide +kernel, rfl⟩
theorem d_Pp_readHunk_28 : j_D jm_Pp_readHunk 28 (.aload_n 1) 1 29 := ⟨by decide +kernel, rfl⟩
theorem d_Pp_readHunk_29 : j_D jm_Pp_readHunk 29 (.aload_n 0) 1 30 := ⟨by decide +kernel, rfl⟩
theorem d_Pp_readHunk_30 : j_D jm_Pp_readHunk 30 (.invokevirtual 54) 3 33 := ⟨by decide +kernel, rfl⟩
theorem d_Pp_readHunk_33 : j_D jm_Pp_readHunk 33 (.putfield 60) 3 36 := ⟨by decide +kernel, rfl⟩
theorem d_Pp_readHunk_36 : j_D jm_Pp_readHunk 36 (.aload_n 0) 1 37 := ⟨by decide +kernel, rfl⟩
theorem d_Pp_readHunk_37 : j_D jm_Pp_readHunk 37 (.bipush 32) 2 39 := ⟨by decide +kernel, rfl⟩
theorem d_Pp_readHunk_39 : j_D jm_Pp_readHunk 39 (.invokevirtual 48) 3 42 := ⟨by decide +kernel, rfl⟩
theorem d_Pp_readHunk_42 : j_D jm_Pp_readHunk 42 (.aload_n 0) 1 43 := ⟨by decide +kernel, rfl⟩
theorem d_Pp_readHunk_43 : j_D jm_Pp_readHunk 43 (.invokevirtual 54) 3 46 := ⟨by decide +kernel, rfl⟩
theorem d_Pp_readHunk_46 : j_D jm_Pp_readHunk 46 .pop 1 47 := ⟨by decide +kernel, rfl⟩
theorem d_Pp_readHunk_47 : j_D jm_Pp_readHunk 47 (.aload_n 0) 1 48 := ⟨by decide +kernel, rfl⟩
theorem d_Pp_readHunk_48 : j_D jm_Pp_readHunk 48 (.bipush 44) 2 50 := ⟨by decide +kernel, rfl⟩
theorem d_Pp_readHunk_50 : j_D jm_Pp_readHunk 50 (.invokevirtual 48) 3 53 := ⟨by decide +kernel, rfl⟩
theorem d_Pp_readHunk_53 : j_D jm_Pp_readHunk 53 (.aload_n 1) 1 54 := ⟨by decide +kernel, rfl⟩
theorem d_Pp_readHunk_54 : j_D jm_Pp_readHunk 54 (.aload_n 0) 1 55 := ⟨by decide +kernel, rfl⟩
theorem d_Pp_readHunk_55 : j_D jm_Pp_readHunk 55 (.invokevirtual 54) 3 58 := ⟨by decide +kernel, rfl⟩
theorem d_Pp_readHunk_58 : j_D jm_Pp_readHunk 58 (.putfield 63) 3 61 := ⟨by decide +kernel, rfl⟩
theorem d_Pp_readHunk_61 : j_D jm_Pp_readHunk 61 (.aload_n 1) 1 62 := ⟨by decide +kernel, rfl⟩
theorem d_Pp_readHunk_62 : j_D jm_Pp_readHunk 62 (.getfield 60) 3 65 := ⟨by decide +kernel, rfl⟩
theorem d_Pp_readHunk_65 : j_D jm_Pp_readHunk 65 (.aload_n 1) 1 66 := ⟨by decide +kernel, rfl⟩
theorem d_Pp_readHunk_66 : j_D jm_Pp_readHunk 66 (.getfield 63) 3 69 := ⟨by decide +kernel, rfl⟩
theorem d_Pp_readHunk_69 : j_D jm_Pp_readHunk 69 .iadd 1 70 := ⟨by decide +kernel, rfl⟩
theorem d_Pp_readHunk_70 : j_E jm_Pp_readHunk 70 (.ifCond .ne) 7 73 77 := ⟨by decide +kernel, rfl, by decide⟩
theorem d_Pp_readHunk_73 : j_D jm_Pp_readHunk 73 (.aload_n 0) 1 74 := ⟨by decide +kernel, rfl⟩
theorem d_Pp_readHunk_74 : j_D jm_Pp_readHunk 74 (.invokevirtual 37) 3 77 := ⟨by decide +kernel, rfl⟩
theorem d_Pp_readHunk_77 : j_D jm_Pp_readHunk 77 (.aload_n 0) 1 78 := ⟨by decide +kernel, rfl⟩
theorem d_Pp_readHunk_78 : j_D jm_Pp_readHunk 78 (.bipush 10) 2 80 := ⟨by decide +kernel, rfl⟩
theorem d_Pp_readHunk_80 : j_D jm_Pp_readHunk 80 (.invokevirtual 48) 3 83 := ⟨by decide +kernel, rfl⟩
theorem d_Pp_readHunk_83 : j_D jm_Pp_readHunk 83 (.aload_n 1) 1 84 := ⟨by decide +kernel, rfl⟩
theorem d_Pp_readHunk_84 : j_D jm_Pp_readHunk 84 (.aload_n 0) 1 85 := ⟨by decide +kernel, rfl⟩
theorem d_Pp_readHunk_85 : j_D jm_Pp_readHunk 85 (.getfield 23) 3 88 := ⟨by decide +kernel, rfl⟩
theorem d_Pp_readHunk_88 : j_D jm_Pp_readHunk 88 (.putfield 66) 3 91 := ⟨by decide +kernel, rfl⟩
theorem d_Pp_readHunk_91 : j_D jm_Pp_readHunk 91 (.aload_n 1) 1 92 := ⟨by decide +kernel, rfl⟩
theorem d_Pp_readHunk_92 : j_D jm_Pp_readHunk 92 (.getfield 60) 3 95 := ⟨by decide +kernel, rfl⟩
theorem d_Pp_readHunk_95 : j_D jm_Pp_readHunk 95 (.istore_n 2) 1 96 := ⟨by decide +kernel, rfl⟩
theorem d_Pp_readHunk_96 : j_D jm_Pp_readHunk 96 (.aload_n 1) 1 97 := ⟨by decide +kernel, rfl⟩
theorem d_Pp_readHunk_97 : j_D jm_Pp_readHunk 97 (.getfield 63) 3 100 := ⟨by decide +kernel, rfl⟩
theorem d_Pp_readHunk_100 : j_D jm_Pp_readHunk 100 (.istore_n 3) 1 101 := ⟨by decide +kernel, rfl⟩
theorem d_Pp_readHunk_101 : j_D jm_Pp_readHunk 101 (.iload_n 2) 1 102 := ⟨by decide +kernel, rfl⟩
theorem d_Pp_readHunk_102 : j_D jm_Pp_readHunk 102 (.iload_n 3) 1 103 := ⟨by decide +kernel, rfl⟩
theorem d_Pp_readHunk_103 : j_D jm_Pp_readHunk 103 .iadd 1 104 := ⟨by decide +kernel, rfl⟩
theorem d_Pp_readHunk_104 : j_E jm_Pp_readHunk 104 (.ifCond .le) 54 107 158 := ⟨by decide +kernel, rfl, by decide⟩
theorem d_Pp_readHunk_107 : j_D jm_Pp_readHunk 107 (.aload_n 0) 1 108 := ⟨by decide +kernel, rfl⟩
theorem d_Pp_readHunk_108 : j_D jm_Pp_readHunk 108 (.iload_n 2) 1 109 := ⟨by decide +kernel, rfl⟩
theorem d_Pp_readHunk_109 : j_D jm_Pp_readHunk 109 (.iload_n 3) 1 110 := ⟨by decide +kernel, rfl⟩
theorem d_Pp_readHunk_110 : j_D jm_Pp_readHunk 110 (.invokevirtual 69) 3 113 := ⟨by decide +kernel, rfl⟩
theorem d_Pp_readHunk_113 : j_D jm_Pp_readHunk 113 (.istore 4) 2 115 := ⟨by decide +kernel, rfl⟩
theorem d_Pp_readHunk_115 : j_D jm_Pp_readHunk 115 (.iload_n 2) 1 116 := ⟨by decide +kernel, rfl⟩
theorem d_Pp_readHunk_116 : j_D jm_Pp_readHunk 116 (.iload 4) 2 118 := ⟨by decide +kernel, rfl⟩
theorem d_Pp_readHunk_118 : j_D jm_Pp_readHunk 118 (.bipush 43) 2 120 := ⟨by decide +kernel, rfl⟩
theorem d_Pp_readHunk_120 : j_E jm_Pp_readHunk 120 (.if_icmp .ne) 7 123 127 := ⟨by decide +kernel, rfl, by decide⟩
theorem d_Pp_readHunk_123 : j_D jm_Pp_readHunk 123 (.iconst 0) 1 124 := ⟨by decide +kernel, rfl⟩
theorem d_Pp_readHunk_124 : j_E jm_Pp_readHunk 124 .goto 4 127 128 := ⟨by decide +kernel, rfl, by decide⟩
theorem d_Pp_readHunk_127 : j_D jm_Pp_readHunk 127 (.iconst 1) 1 128 := ⟨by decide +kernel, rfl⟩
theorem d_Pp_readHunk_128 : j_D jm_Pp_readHunk 128 .isub 1 129 := ⟨by decide +kernel, rfl⟩
theorem d_Pp_readHunk_129 : j_D jm_Pp_readHunk 129 (.istore_n 2) 1 130 := ⟨by decide +kernel, rfl⟩
theorem d_Pp_readHunk_130 : j_D jm_Pp_readHunk 130 (.iload_n 3) 1 131 := ⟨by decide +kernel, rfl⟩
theorem d_Pp_readHunk_131 : j_D jm_Pp_readHunk 131 (.iload 4) 2 133 := ⟨by decide +kernel, rfl⟩
theorem d_Pp_readHunk_133 : j_D jm_Pp_readHunk 133 (.bipush 45) 2 135 := ⟨by decide +kernel, rfl⟩
theorem d_Pp_readHunk_135 : j_E jm_Pp_readHunk 135 (.if_icmp .ne) 7 138 142 := ⟨by decide +kernel, rfl, by decide⟩
theorem d_Pp_readHunk_138 : j_D jm_Pp_readHunk 138 (.iconst 0) 1 139 := ⟨by decide +kernel, rfl⟩
theorem d_Pp_readHunk_139 : j_E jm_Pp_readHunk 139 .goto 4 142 143 := ⟨by decide +kernel, rfl, by decide⟩
theorem d_Pp_readHunk_142 : j_D jm_Pp_readHunk 142 (.iconst 1) 1 143 := ⟨by decide +kernel, rfl⟩
theorem d_Pp_readHunk_143 : j_D jm_Pp_readHunk 143 .isub 1 144 := ⟨by decide +kernel, rfl⟩
theorem d_Pp_readHunk_144 : j_D jm_Pp_readHunk 144 (.istore_n 3) 1 145 := ⟨by decide +kernel, rfl⟩
theorem d_Pp_readHunk_145 : j_D jm_Pp_readHunk 145 (.aload_n 1) 1 146 := ⟨by decide +kernel, rfl⟩
theorem d_Pp_readHunk_146 : j_D jm_Pp_readHunk 146 .dup 1 147 := ⟨by decide +kernel, rfl⟩
theorem d_Pp_readHunk_147 : j_D jm_Pp_readHunk 147 (.getfield 73) 3 150 := ⟨by decide +kernel, rfl⟩
theorem d_Pp_readHunk_150 : j_D jm_Pp_readHunk 150 (.iconst 1) 1 151 := ⟨by decide +kernel, rfl⟩
theorem d_Pp_readHunk_151 : j_D jm_Pp_readHunk 151 .iadd 1 152 := ⟨by decide +kernel, rfl⟩
theorem d_Pp_readHunk_152 : j_D jm_Pp_readHunk 152 (.putfield 73) 3 155 := ⟨by decide +kernel, rfl⟩
theorem d_Pp_readHunk_155 : j_E jm_Pp_readHunk 155 .goto (-54) 158 101 := ⟨by decide +kernel, rfl, by decide⟩
theorem d_Pp_readHunk_158 : j_D jm_Pp_readHunk 158 (.aload_n 1) 1 159 := ⟨by decide +kernel, rfl⟩
theorem d_Pp_readHunk_159 : j_D jm_Pp_readHunk 159 .areturn 1 160 := ⟨by decide +kernel, rfl⟩
theorem f_Pp_9 : j_F "LinePatcher$Paper" 9 7 0 0 true := ⟨rfl, _, "LinePatcher$Paper", rfl, by decide, rfl, Or.inl (by decide +kernel), Or.inl rfl⟩
theorem f_Pp_15 : j_F "LinePatcher$Paper" 15 7 1 1 false := ⟨rfl, _, "LinePatcher$Paper", rfl, by decide, rfl, Or.inl (by decide +kernel), Or.inl rfl⟩
theorem lc_Pp_put : j_Lc jm_Pp_put 1 := ⟨by decide +kernel, by decide +kernel, by decide, by decide +kernel, by decide⟩
theorem c_Pp_19 : j_Lv "LinePatcher$Paper" 19 7 jm_Pp_put 1 := ⟨by decide +kernel, by decide +kernel, ⟨_, rfl, by decide +kernel⟩, lc_Pp_put⟩
theorem f_Pp_23 : j_F "LinePatcher$Paper" 23 7 2 2 false := ⟨rfl, _, "LinePatcher$Paper", rfl, by decide, rfl, Or.inl (by decide +kernel), Or.inl rfl⟩
theorem lc_Pp_look : j_Lc jm_Pp_look 0 := ⟨by decide +kernel, by decide +kernel, by decide, by decide +kernel, by decide⟩
theorem c_Pp_33 : j_Lv "LinePatcher$Paper" 33 7 jm_Pp_look 0 := ⟨by decide +kernel, by decide +kernel, ⟨_, rfl, by decide +kernel⟩, lc_Pp_look⟩
theorem lc_Pp_fail : j_Lc jm_Pp_fail 0 := ⟨by decide +kernel, by decide +kernel, by decide, by decide +kernel, by decide⟩
theorem c_Pp_37 : j_Lv "LinePatcher$Paper" 37 7 jm_Pp_fail 0 := ⟨by decide +kernel, by decide +kernel, ⟨_, rfl, by decide +kernel⟩, lc_Pp_fail⟩
theorem c_Pp_40 : j_Ls "LinePatcher$Paper" 40 jm_LP_within 3 := ⟨Or.inr ⟨"LinePatcher", by decide +kernel⟩, by decide +kernel, rfl, lc_LP_within⟩
theorem c_Pp_44 : j_Ls "LinePatcher$Paper" 44 jm_LP_isLetter 1 := ⟨Or.inr ⟨"LinePatcher", by decide +kernel⟩, by decide +kernel, rfl, lc_LP_isLetter⟩
theorem lc_Pp_expect : j_Lc jm_Pp_expect 1 := ⟨by decide +kernel, by decide +kernel, by decide, by decide +kernel, by decide⟩
theorem c_Pp_48 : j_Lv "LinePatcher$Paper" 48 7 jm_Pp_expect 1 := ⟨by decide +kernel, by decide +kernel, ⟨_, rfl, by decide +kernel⟩, lc_Pp_expect⟩
theorem lc_Hk_init : j_Lc jm_Hk_init 0 := ⟨by decide +kernel, by decide +kernel, by decide, by decide +kernel, by decide⟩
theorem c_Pp_53 : j_Li "LinePatcher$Paper" 53 jm_Hk_init 0 := ⟨Or.inr ⟨"LinePatcher", by decide +kernel⟩, by decide +kernel, rfl, rfl, rfl, lc_Hk_init⟩
theorem lc_Pp_readNumber : j_Lc jm_Pp_readNumber 0 := ⟨by decide +kernel, by decide +kernel, by decide, by decide +kernel, by decide⟩
theorem c_Pp_54 : j_Lv "LinePatcher$Paper" 54 7 jm_Pp_readNumber 0 := ⟨by decide +kernel, by decide +kernel, ⟨_, rfl, by decide +kernel⟩, lc_Pp_readNumber⟩
theorem f_Pp_57 : j_F "LinePatcher$Paper" 57 6 0 0 false := ⟨rfl, _, "LinePatcher$Hunk", rfl, by decide, rfl, Or.inr ⟨"LinePatcher", by decide +kernel⟩, Or.inl rfl⟩
theorem f_Pp_60 : j_F "LinePatcher$Paper" 60 6 1 1 false := ⟨rfl, _, "LinePatcher$Hunk", rfl, by decide, rfl, Or.inr ⟨"LinePatcher", by decide +kernel⟩, Or.inl rfl⟩
theorem f_Pp_63 : j_F "LinePatcher$Paper" 63 6 2 2 false := ⟨rfl, _, "LinePatcher$Hunk", rfl, by decide, rfl, Or.inr ⟨"LinePatcher", by decide +kernel⟩, Or.inl rfl⟩
theorem f_Pp_66 : j_F "LinePatcher$Paper" 66 6 3 3 false := ⟨rfl, _, "LinePatcher$Hunk", rfl, by decide, rfl, Or.inr ⟨"LinePatcher", by decide +kernel⟩, Or.inl rfl⟩
theorem lc_Pp_readLine : j_Lc jm_Pp_readLine 2 := ⟨by decide +kernel, by decide +kernel, by decide, by decide +kernel, by decide⟩
theorem c_Pp_69 : j_Lv "LinePatcher$Paper" 69 7 jm_Pp_readLine 2 := ⟨by decide +kernel, by decide +kernel, ⟨_, rfl, by decide +kernel⟩, lc_Pp_readLine⟩
theorem f_Pp_73 : j_F "LinePatcher$Paper" 73 6 4 4 false := ⟨rfl, _, "LinePatcher$Hunk", rfl, by decide, rfl, Or.inr ⟨"LinePatcher", by decide +kernel⟩, Or.inl rfl⟩
theorem s_Pp_put_0 {G : j_G} {d B S N : Nat} {K : Nat → Option (Nat × Nat)} {M : Nat → Int → Int} {g : Nat → Int → Option Nat} {Q : j_O → j_S → Prop} {a0 y1 n2 : Nat} {x1 : Int} (hk1 : K a0 = some (0, 7)) (hg2 : g a0 0 = some y1) (hk2 : K y1 = some (2, n2)) (r3 : 0 ≤ (M a0 1) := by omega) (r3' : (M a0 1) < (n2 : Int) := by omega) (r4 : -128 ≤ (Int.bmod x1 256) ∧ (Int.bmod x1 256) ≤ 127 := by omega) (k1 : Q (.inl none) (N, K, (j_up (j_up M a0 1 ((M a0 1) + 1)) y1 (M a0 1) (Int.bmod x1 256)), g)) : j_J G jm_Pp_put d B S 0 [jr_ a0, ji_ x1] [] (N, K, M, g) Q :=
  j_aload_n d_Pp_put_0 rfl <| j_getR d_Pp_put_1 f_Pp_9 hk1 hg2 <| j_aload_n d_Pp_put_4 rfl <| j_dupR d_Pp_put_5 <| j_getI d_Pp_put_6 f_Pp_15 hk1 <| j_dup_x1IR d_Pp_put_9 <| j_iconst d_Pp_put_10 <| j_iadd d_Pp_put_11 <| j_putI d_Pp_put_12 f_Pp_15 (⟨_, rfl, Or.inl rfl⟩) rfl hk1 <| j_iload_n d_Pp_put_15 rfl <| j_i2b d_Pp_put_16 <| j_bast d_Pp_put_17 hk2 r3 r3' r4 <| j_vreturn d_Pp_put_18 rfl k1
theorem s_Pp_number_0 {G : j_G} {d B S N : Nat} {K : Nat → Option (Nat × Nat)} {M : Nat → Int → Int} {g : Nat → Int → Option Nat} {Q : j_O → j_S → Prop} {a0 : Nat} {x1 : Int} (r1 : -2147483648 ≤ x1 ∧ x1 ≤ 2147483647 := by omega) (k1 : x1 < 10 → j_J G jm_Pp_number d B S 17 [jr_ a0, ji_ x1] [] (N, K, M, g) Q) (k2 : 10 ≤ x1 → j_J G jm_Pp_number d B S 6 [jr_ a0, ji_ x1] [] (N, K, M, g) Q) : j_J G jm_Pp_number d B S 0 [jr_ a0, ji_ x1] [] (N, K, M, g) Q :=
  j_iload_n d_Pp_number_0 rfl <| j_bipush d_Pp_number_1 (by decide) <| j_icmp_lt d_Pp_number_3 r1 (by decide) k1 k2
theorem s_Pp_number_6 {G : j_G} {d B S N : Nat} {K : Nat → Option (Nat × Nat)} {M : Nat → Int → Int} {g : Nat → Int → Option Nat} {Q : j_O → j_S → Prop} {a0 : Nat} {x1 : Int} {q : (Nat → Int → Int) → Prop} (r1 : -2147483648 ≤ x1 ∧ x1 ≤ 2147483647 := by omega) (hk1 : K a0 = some (0, 7)) (hC : j_Ct G jm_Pp_put d 0 0 [jr_ a0, ji_ (48 + (Int.tdiv x1 10))] (N, K, M, g) (j_pV N K g q)) (k1 : ∀ M', q M' → j_J G jm_Pp_number (d + 1) B S 17 [jr_ a0, ji_ x1] [] (N, K, M', g) Q) : j_J G jm_Pp_number (d + 1) B S 6 [jr_ a0, ji_ x1] [] (N, K, M, g) Q :=
  j_aload_n d_Pp_number_6 rfl <| j_bipush d_Pp_number_7 (by decide) <| j_iload_n d_Pp_number_9 rfl <| j_bipush d_Pp_number_10 (by decide) <| j_idiv d_Pp_number_12 r1 (by decide) (by decide) <| j_iadd d_Pp_number_13 <| j_aVV (as := [ji_ (48 + (Int.tdiv x1 10))]) (rest := []) d_Pp_number_14 c_Pp_19 hk1 rfl (Nat.le_of_ble_eq_true rfl) hC k1
theorem s_Pp_number_17 {G : j_G} {d B S N : Nat} {K : Nat → Option (Nat × Nat)} {M : Nat → Int → Int} {g : Nat → Int → Option Nat} {Q : j_O → j_S → Prop} {a0 : Nat} {x1 : Int} {q : (Nat → Int → Int) → Prop} (r1 : -2147483648 ≤ x1 ∧ x1 ≤ 2147483647 := by omega) (hk1 : K a0 = some (0, 7)) (hC : j_Ct G jm_Pp_put d 0 0 [jr_ a0, ji_ (48 + (Int.tmod x1 10))] (N, K, M, g) (j_pV N K g q)) (k1 : ∀ M', q M' → j_J G jm_Pp_number (d + 1) B S 28 [jr_ a0, ji_ x1] [] (N, K, M', g) Q) : j_J G jm_Pp_number (d + 1) B S 17 [jr_ a0, ji_ x1] [] (N, K, M, g) Q :=
  j_aload_n d_Pp_number_17 rfl <| j_bipush d_Pp_number_18 (by decide) <| j_iload_n d_Pp_number_20 rfl <| j_bipush d_Pp_number_21 (by decide) <| j_irem d_Pp_number_23 r1 (by decide) (by decide) <| j_iadd d_Pp_number_24 <| j_aVV (as := [ji_ (48 + (Int.tmod x1 10))]) (rest := []) d_Pp_number_25 c_Pp_19 hk1 rfl (Nat.le_of_ble_eq_true rfl) hC k1
theorem s_Pp_number_28 {G : j_G} {d B S N : Nat} {K : Nat → Option (Nat × Nat)} {M : Nat → Int → Int} {g : Nat → Int → Option Nat} {Q : j_O → j_S → Prop} {a0 : Nat} {x1 : Int}  (k1 : Q (.inl none) (N, K, M, g)) : j_J G jm_Pp_number d B S 28 [jr_ a0, ji_ x1] [] (N, K, M, g) Q :=
  j_vreturn d_Pp_number_28 rfl k1
theorem s_Pp_look_0 {G : j_G} {d B S N : Nat} {K : Nat → Option (Nat × Nat)} {M : Nat → Int → Int} {g : Nat → Int → Option Nat} {Q : j_O → j_S → Prop} {a0 : Nat} (hk1 : K a0 = some (0, 7)) (r1 : -2147483648 ≤ (M a0 2) ∧ (M a0 2) ≤ 2147483647 := by omega) (r2 : -2147483648 ≤ (M a0 1) ∧ (M a0 1) ≤ 2147483647 := by omega) (k1 : (M a0 1) ≤ (M a0 2) → Q (.inl (some (ji_ (-1)))) (N, K, M, g)) (k2 : (M a0 2) < (M a0 1) → j_J G jm_Pp_look d B S 11 [jr_ a0] [] (N, K, M, g) Q) : j_J G jm_Pp_look d B S 0 [jr_ a0] [] (N, K, M, g) Q :=
  j_aload_n d_Pp_look_0 rfl <| j_getI d_Pp_look_1 f_Pp_23 hk1 <| j_aload_n d_Pp_look_4 rfl <| j_getI d_Pp_look_5 f_Pp_15 hk1 <| j_icmp_ge d_Pp_look_8 r1 r2 (fun h => j_iconst d_Pp_look_23 <| j_ireturn d_Pp_look_24 rfl <| k1 h) k2
theorem s_Pp_look_11 {G : j_G} {d B S N : Nat} {K : Nat → Option (Nat × Nat)} {M : Nat → Int → Int} {g : Nat → Int → Option Nat} {Q : j_O → j_S → Prop} {a0 y1 n2 : Nat} (hk1 : K a0 = some (0, 7)) (hg2 : g a0 0 = some y1) (hk2 : K y1 = some (2, n2)) (r3 : 0 ≤ (M a0 2) := by omega) (r3' : (M a0 2) < (n2 : Int) := by omega) (k1 : Q (.inl (some (ji_ (M y1 (M a0 2))))) (N, K, M, g)) : j_J G jm_Pp_look d B S 11 [jr_ a0] [] (N, K, M, g) Q :=
  j_aload_n d_Pp_look_11 rfl <| j_getR d_Pp_look_12 f_Pp_9 hk1 hg2 <| j_aload_n d_Pp_look_15 rfl <| j_getI d_Pp_look_16 f_Pp_23 hk1 <| j_bald d_Pp_look_19 hk2 r3 r3' <| j_goto d_Pp_look_20 (j_ireturn d_Pp_look_24 rfl <| k1)
theorem s_Pp_look_23 {G : j_G} {d B S N : Nat} {K : Nat → Option (Nat × Nat)} {M : Nat → Int → Int} {g : Nat → Int → Option Nat} {Q : j_O → j_S → Prop} {a0 : Nat}  (k1 : Q (.inl (some (ji_ (-1)))) (N, K, M, g)) : j_J G jm_Pp_look d B S 23 [jr_ a0] [] (N, K, M, g) Q :=
  j_iconst d_Pp_look_23 <| (j_ireturn d_Pp_look_24 rfl <| k1)
theorem s_Pp_look_24 {G : j_G} {d B S N : Nat} {K : Nat → Option (Nat × Nat)} {M : Nat → Int → Int} {g : Nat → Int → Option Nat} {Q : j_O → j_S → Prop} {a0 : Nat} {t0 : Int}  (k1 : Q (.inl (some (ji_ t0))) (N, K, M, g)) : j_J G jm_Pp_look d B S 24 [jr_ a0] [ji_ t0] (N, K, M, g) Q :=
  j_ireturn d_Pp_look_24 rfl k1
theorem s_Pp_expect_0 {G : j_G} {d B S N : Nat} {K : Nat → Option (Nat × Nat)} {M : Nat → Int → Int} {g : Nat → Int → Option Nat} {Q : j_O → j_S → Prop} {a0 : Nat} {x1 : Int} {q : Int → (Nat → Int → Int) → Prop} (hk1 : K a0 = some (0, 7)) (hC : j_Ct G jm_Pp_look d 0 0 [jr_ a0] (N, K, M, g) (j_pI N K g q)) (k1 : ∀ z M', q z M' → j_J G jm_Pp_expect (d + 1) B S 4 [jr_ a0, ji_ x1] [ji_ z] (N, K, M', g) Q) : j_J G jm_Pp_expect (d + 1) B S 0 [jr_ a0, ji_ x1] [] (N, K, M, g) Q :=
  j_aload_n d_Pp_expect_0 rfl <| j_aVI (as := []) (rest := []) d_Pp_expect_1 c_Pp_33 hk1 rfl (Nat.le_of_ble_eq_true rfl) hC k1
theorem s_Pp_expect_4 {G : j_G} {d B S N : Nat} {K : Nat → Option (Nat × Nat)} {M : Nat → Int → Int} {g : Nat → Int → Option Nat} {Q : j_O → j_S → Prop} {a0 : Nat} {x1 t0 : Int} (r1 : -2147483648 ≤ t0 ∧ t0 ≤ 2147483647 := by omega) (r2 : -2147483648 ≤ x1 ∧ x1 ≤ 2147483647 := by omega) (k1 : t0 = x1 → j_J G jm_Pp_expect d B S 12 [jr_ a0, ji_ x1] [] (N, K, M, g) Q) (k2 : t0 ≠ x1 → j_J G jm_Pp_expect d B S 8 [jr_ a0, ji_ x1] [] (N, K, M, g) Q) : j_J G jm_Pp_expect d B S 4 [jr_ a0, ji_ x1] [ji_ t0] (N, K, M, g) Q :=
  j_iload_n d_Pp_expect_4 rfl <| j_icmp_eq d_Pp_expect_5 r1 r2 k1 k2
theorem s_Pp_expect_8 {G : j_G} {d B S N : Nat} {K : Nat → Option (Nat × Nat)} {M : Nat → Int → Int} {g : Nat → Int → Option Nat} {Q : j_O → j_S → Prop} {a0 : Nat} {x1 : Int} {B' S' : Nat} {Q' : j_O → j_S → Prop} (hk1 : K a0 = some (0, 7)) (hC : j_Ct G jm_Pp_fail d B' S' [jr_ a0] (N, K, M, g) Q') (k2 : ∀ x σ', Q' (.inr x) σ' → Q (.inr x) σ') (k1 : ∀ v σ', Q' (.inl v) σ' → j_J G jm_Pp_expect (d + 1) B S 12 [jr_ a0, ji_ x1] (v.toList ++ []) σ' Q) : j_J G jm_Pp_expect (d + 1) (B' + B) (S' + S) 8 [jr_ a0, ji_ x1] [] (N, K, M, g) Q :=
  j_aload_n d_Pp_expect_8 rfl <| j_callX (as := []) (rest := []) rfl d_Pp_expect_9 c_Pp_37 hk1 rfl (Nat.le_of_ble_eq_true rfl) hC k2 k1
theorem s_Pp_expect_12 {G : j_G} {d B S N : Nat} {K : Nat → Option (Nat × Nat)} {M : Nat → Int → Int} {g : Nat → Int → Option Nat} {Q : j_O → j_S → Prop} {a0 : Nat} {x1 : Int} (hk1 : K a0 = some (0, 7)) (k1 : Q (.inl none) (N, K, (j_up M a0 2 ((M a0 2) + 1)), g)) : j_J G jm_Pp_expect d B S 12 [jr_ a0, ji_ x1] [] (N, K, M, g) Q :=
  j_aload_n d_Pp_expect_12 rfl <| j_dupR d_Pp_expect_13 <| j_getI d_Pp_expect_14 f_Pp_23 hk1 <| j_iconst d_Pp_expect_17 <| j_iadd d_Pp_expect_18 <| j_putI d_Pp_expect_19 f_Pp_23 (⟨_, rfl, Or.inl rfl⟩) rfl hk1 <| j_vreturn d_Pp_expect_22 rfl k1
theorem s_Pp_readNumber_0 {G : j_G} {d B S N : Nat} {K : Nat → Option (Nat × Nat)} {M : Nat → Int → Int} {g : Nat → Int → Option Nat} {Q : j_O → j_S → Prop} {a0 : Nat} {u1 u2 : j_V} {q : Int → (Nat → Int → Int) → Prop} (hk1 : K a0 = some (0, 7)) (hC : j_Ct G jm_Pp_look d 0 0 [jr_ a0] (N, K, M, g) (j_pI N K g q)) (k1 : ∀ z M', q z M' → j_J G jm_Pp_readNumber (d + 1) B S 4 [jr_ a0, u1, u2] [ji_ z] (N, K, M', g) Q) : j_J G jm_Pp_readNumber (d + 1) B S 0 [jr_ a0, u1, u2] [] (N, K, M, g) Q :=
  j_aload_n d_Pp_readNumber_0 rfl <| j_aVI (as := []) (rest := []) d_Pp_readNumber_1 c_Pp_33 hk1 rfl (Nat.le_of_ble_eq_true rfl) hC k1
theorem s_Pp_readNumber_4 {G : j_G} {d B S N : Nat} {K : Nat → Option (Nat × Nat)} {M : Nat → Int → Int} {g : Nat → Int → Option Nat} {Q : j_O → j_S → Prop} {a0 : Nat} {t0 : Int} {u1 u2 : j_V} {q : Int → (Nat → Int → Int) → Prop} (hC : j_Ct G jm_LP_within d 0 0 [ji_ (t0 - 48), ji_ 0, ji_ 9] (N, K, M, g) (j_pI N K g q)) (k1 : ∀ z M', q z M' → j_J G jm_Pp_readNumber (d + 1) B S 15 [jr_ a0, ji_ (t0 - 48), u2] [ji_ z] (N, K, M', g) Q) : j_J G jm_Pp_readNumber (d + 1) B S 4 [jr_ a0, u1, u2] [ji_ t0] (N, K, M, g) Q :=
  j_bipush d_Pp_readNumber_4 (by decide) <| j_isub d_Pp_readNumber_6 <| j_istore_n d_Pp_readNumber_7 rfl rfl <| j_iload_n d_Pp_readNumber_8 rfl <| j_iconst d_Pp_readNumber_9 <| j_bipush d_Pp_readNumber_10 (by decide) <| j_aSI (as := [ji_ (t0 - 48), ji_ 0, ji_ 9]) (rest := []) d_Pp_readNumber_12 c_Pp_40 rfl (Nat.le_of_ble_eq_true rfl) hC k1
theorem s_Pp_readNumber_15 {G : j_G} {d B S N : Nat} {K : Nat → Option (Nat × Nat)} {M : Nat → Int → Int} {g : Nat → Int → Option Nat} {Q : j_O → j_S → Prop} {a0 : Nat} {x1 t0 : Int} {u2 : j_V} (r1 : -2147483648 ≤ t0 ∧ t0 ≤ 2147483647 := by omega) (k1 : t0 ≠ 0 → j_J G jm_Pp_readNumber d B S 22 [jr_ a0, ji_ x1, u2] [] (N, K, M, g) Q) (k2 : t0 = 0 → j_J G jm_Pp_readNumber d B S 18 [jr_ a0, ji_ x1, u2] [] (N, K, M, g) Q) : j_J G jm_Pp_readNumber d B S 15 [jr_ a0, ji_ x1, u2] [ji_ t0] (N, K, M, g) Q :=
  j_if_ne d_Pp_readNumber_15 r1 k1 k2
theorem s_Pp_readNumber_18 {G : j_G} {d B S N : Nat} {K : Nat → Option (Nat × Nat)} {M : Nat → Int → Int} {g : Nat → Int → Option Nat} {Q : j_O → j_S → Prop} {a0 : Nat} {x1 : Int} {u2 : j_V} {B' S' : Nat} {Q' : j_O → j_S → Prop} (hk1 : K a0 = some (0, 7)) (hC : j_Ct G jm_Pp_fail d B' S' [jr_ a0] (N, K, M, g) Q') (k2 : ∀ x σ', Q' (.inr x) σ' → Q (.inr x) σ') (k1 : ∀ v σ', Q' (.inl v) σ' → j_J G jm_Pp_readNumber (d + 1) B S 22 [jr_ a0, ji_ x1, u2] (v.toList ++ []) σ' Q) : j_J G jm_Pp_readNumber (d + 1) (B' + B) (S' + S) 18 [jr_ a0, ji_ x1, u2] [] (N, K, M, g) Q :=
  j_aload_n d_Pp_readNumber_18 rfl <| j_callX (as := []) (rest := []) rfl d_Pp_readNumber_19 c_Pp_37 hk1 rfl (Nat.le_of_ble_eq_true rfl) hC k2 k1
theorem s_Pp_readNumber_22 {G : j_G} {d B S N : Nat} {K : Nat → Option (Nat × Nat)} {M : Nat → Int → Int} {g : Nat → Int → Option Nat} {Q : j_O → j_S → Prop} {a0 : Nat} {x1 : Int} {u2 : j_V} {q : Int → (Nat → Int → Int) → Prop} (hk1 : K a0 = some (0, 7)) (hC : j_Ct G jm_Pp_look d 0 0 [jr_ a0] (N, K, (j_up M a0 2 ((M a0 2) + 1)), g) (j_pI N K g q)) (k1 : ∀ z M', q z M' → j_J G jm_Pp_readNumber (d + 1) B S 36 [jr_ a0, ji_ x1, u2] [ji_ z] (N, K, M', g) Q) : j_J G jm_Pp_readNumber (d + 1) B S 22 [jr_ a0, ji_ x1, u2] [] (N, K, M, g) Q :=
  j_aload_n d_Pp_readNumber_22 rfl <| j_dupR d_Pp_readNumber_23 <| j_getI d_Pp_readNumber_24 f_Pp_23 hk1 <| j_iconst d_Pp_readNumber_27 <| j_iadd d_Pp_readNumber_28 <| j_putI d_Pp_readNumber_29 f_Pp_23 (⟨_, rfl, Or.inl rfl⟩) rfl hk1 <| j_aload_n d_Pp_readNumber_32 rfl <| j_aVI (as := []) (rest := []) d_Pp_readNumber_33 c_Pp_33 hk1 rfl (Nat.le_of_ble_eq_true rfl) hC k1
theorem s_Pp_readNumber_36 {G : j_G} {d B S N : Nat} {K : Nat → Option (Nat × Nat)} {M : Nat → Int → Int} {g : Nat → Int → Option Nat} {Q : j_O → j_S → Prop} {a0 : Nat} {x1 t0 : Int} {u2 : j_V} (r1 : -2147483648 ≤ x1 ∧ x1 ≤ 2147483647 := by omega) (k1 : x1 = 0 → Q (.inl (some (ji_ x1))) (N, K, M, g)) (k2 : x1 ≠ 0 → j_J G jm_Pp_readNumber d B S 44 [jr_ a0, ji_ x1, ji_ (t0 - 48)] [] (N, K, M, g) Q) : j_J G jm_Pp_readNumber d B S 36 [jr_ a0, ji_ x1, u2] [ji_ t0] (N, K, M, g) Q :=
  j_bipush d_Pp_readNumber_36 (by decide) <| j_isub d_Pp_readNumber_38 <| j_istore_n d_Pp_readNumber_39 rfl rfl <| j_iload_n d_Pp_readNumber_40 rfl <| j_if_eq d_Pp_readNumber_41 r1 (fun h => j_iload_n d_Pp_readNumber_54 rfl <| j_ireturn d_Pp_readNumber_55 rfl <| k1 h) k2
theorem s_Pp_readNumber_44 {G : j_G} {d B S N : Nat} {K : Nat → Option (Nat × Nat)} {M : Nat → Int → Int} {g : Nat → Int → Option Nat} {Q : j_O → j_S → Prop} {a0 : Nat} {x1 x2 : Int} {q : Int → (Nat → Int → Int) → Prop} (hC : j_Ct G jm_LP_within d 0 0 [ji_ x2, ji_ 0, ji_ 9] (N, K, M, g) (j_pI N K g q)) (k1 : ∀ z M', q z M' → j_J G jm_Pp_readNumber (d + 1) B S 51 [jr_ a0, ji_ x1, ji_ x2] [ji_ z] (N, K, M', g) Q) : j_J G jm_Pp_readNumber (d + 1) B S 44 [jr_ a0, ji_ x1, ji_ x2] [] (N, K, M, g) Q :=
  j_iload_n d_Pp_readNumber_44 rfl <| j_iconst d_Pp_readNumber_45 <| j_bipush d_Pp_readNumber_46 (by decide) <| j_aSI (as := [ji_ x2, ji_ 0, ji_ 9]) (rest := []) d_Pp_readNumber_48 c_Pp_40 rfl (Nat.le_of_ble_eq_true rfl) hC k1
theorem s_Pp_readNumber_51 {G : j_G} {d B S N : Nat} {K : Nat → Option (Nat × Nat)} {M : Nat → Int → Int} {g : Nat → Int → Option Nat} {Q : j_O → j_S → Prop} {a0 : Nat} {x1 x2 t0 : Int} (r1 : -2147483648 ≤ t0 ∧ t0 ≤ 2147483647 := by omega) (k1 : t0 ≠ 0 → j_J G jm_Pp_readNumber d B S 56 [jr_ a0, ji_ x1, ji_ x2] [] (N, K, M, g) Q) (k2 : t0 = 0 → Q (.inl (some (ji_ x1))) (N, K, M, g)) : j_J G jm_Pp_readNumber d B S 51 [jr_ a0, ji_ x1, ji_ x2] [ji_ t0] (N, K, M, g) Q :=
  j_if_ne d_Pp_readNumber_51 r1 k1 (fun h => j_iload_n d_Pp_readNumber_54 rfl <| j_ireturn d_Pp_readNumber_55 rfl <| k2 h)
theorem s_Pp_readNumber_54 {G : j_G} {d B S N : Nat} {K : Nat → Option (Nat × Nat)} {M : Nat → Int → Int} {g : Nat → Int → Option Nat} {Q : j_O → j_S → Prop} {a0 : Nat} {x1 x2 : Int}  (k1 : Q (.inl (some (ji_ x1))) (N, K, M, g)) : j_J G jm_Pp_readNumber d B S 54 [jr_ a0, ji_ x1, ji_ x2] [] (N, K, M, g) Q :=
  j_iload_n d_Pp_readNumber_54 rfl <| j_ireturn d_Pp_readNumber_55 rfl k1
theorem s_Pp_readNumber_56 {G : j_G} {d B S N : Nat} {K : Nat → Option (Nat × Nat)} {M : Nat → Int → Int} {g : Nat → Int → Option Nat} {Q : j_O → j_S → Prop} {a0 : Nat} {x1 x2 : Int} (hk1 : K a0 = some (0, 7)) (k1 : Q (.inl (some (ji_ ((10 * x1) + x2)))) (N, K, (j_up M a0 2 ((M a0 2) + 1)), g)) : j_J G jm_Pp_readNumber d B S 56 [jr_ a0, ji_ x1, ji_ x2] [] (N, K, M, g) Q :=
  j_aload_n d_Pp_readNumber_56 rfl <| j_dupR d_Pp_readNumber_57 <| j_getI d_Pp_readNumber_58 f_Pp_23 hk1 <| j_iconst d_Pp_readNumber_61 <| j_iadd d_Pp_readNumber_62 <| j_putI d_Pp_readNumber_63 f_Pp_23 (⟨_, rfl, Or.inl rfl⟩) rfl hk1 <| j_bipush d_Pp_readNumber_66 (by decide) <| j_iload_n d_Pp_readNumber_68 rfl <| j_imul d_Pp_readNumber_69 <| j_iload_n d_Pp_readNumber_70 rfl <| j_iadd d_Pp_readNumber_71 <| j_ireturn d_Pp_readNumber_72 rfl k1
theorem s_Pp_readLine_0 {G : j_G} {d B S N : Nat} {K : Nat → Option (Nat × Nat)} {M : Nat → Int → Int} {g : Nat → Int → Option Nat} {Q : j_O → j_S → Prop} {a0 : Nat} {x1 x2 : Int} {u3 u4 : j_V} {q : Int → (Nat → Int → Int) → Prop} (hk1 : K a0 = some (0, 7)) (hC : j_Ct G jm_Pp_look d 0 0 [jr_ a0] (N, K, M, g) (j_pI N K g q)) (k1 : ∀ z M', q z M' → j_J G jm_Pp_readLine (d + 1) B S 4 [jr_ a0, ji_ x1, ji_ x2, u3, u4] [ji_ z] (N, K, M', g) Q) : j_J G jm_Pp_readLine (d + 1) B S 0 [jr_ a0, ji_ x1, ji_ x2, u3, u4] [] (N, K, M, g) Q :=
  j_aload_n d_Pp_readLine_0 rfl <| j_aVI (as := []) (rest := []) d_Pp_readLine_1 c_Pp_33 hk1 rfl (Nat.le_of_ble_eq_true rfl) hC k1
theorem s_Pp_readLine_4 {G : j_G} {d B S N : Nat} {K : Nat → Option (Nat × Nat)} {M : Nat → Int → Int} {g : Nat → Int → Option Nat} {Q : j_O → j_S → Prop} {a0 : Nat} {x1 x2 t0 : Int} {u3 u4 : j_V} (r1 : -2147483648 ≤ t0 ∧ t0 ≤ 2147483647 := by omega) (k1 : t0 ≠ 32 → j_J G jm_Pp_readLine d B S 19 [jr_ a0, ji_ x1, ji_ x2, ji_ t0, u4] [] (N, K, M, g) Q) (k2 : t0 = 32 → j_J G jm_Pp_readLine d B S 11 [jr_ a0, ji_ x1, ji_ x2, ji_ t0, u4] [] (N, K, M, g) Q) : j_J G jm_Pp_readLine d B S 4 [jr_ a0, ji_ x1, ji_ x2, u3, u4] [ji_ t0] (N, K, M, g) Q :=
  j_istore_n d_Pp_readLine_4 rfl rfl <| j_iload_n d_Pp_readLine_5 rfl <| j_bipush d_Pp_readLine_6 (by decide) <| j_icmp_ne d_Pp_readLine_8 r1 (by decide) k1 k2
theorem s_Pp_readLine_11 {G : j_G} {d B S N : Nat} {K : Nat → Option (Nat × Nat)} {M : Nat → Int → Int} {g : Nat → Int → Option Nat} {Q : j_O → j_S → Prop} {a0 : Nat} {x1 x2 x3 : Int} {u4 : j_V} (r1 : -2147483648 ≤ x1 ∧ x1 ≤ 2147483647 := by omega) (k1 : x1 ≤ 0 → j_J G jm_Pp_readLine d B S 19 [jr_ a0, ji_ x1, ji_ x2, ji_ x3, u4] [] (N, K, M, g) Q) (k2 : 0 < x1 → j_J G jm_Pp_readLine d B S 15 [jr_ a0, ji_ x1, ji_ x2, ji_ x3, u4] [] (N, K, M, g) Q) : j_J G jm_Pp_readLine d B S 11 [jr_ a0, ji_ x1, ji_ x2, ji_ x3, u4] [] (N, K, M, g) Q :=
  j_iload_n d_Pp_readLine_11 rfl <| j_if_le d_Pp_readLine_12 r1 k1 k2
theorem s_Pp_readLine_15 {G : j_G} {d B S N : Nat} {K : Nat → Option (Nat × Nat)} {M : Nat → Int → Int} {g : Nat → Int → Option Nat} {Q : j_O → j_S → Prop} {a0 : Nat} {x1 x2 x3 : Int} {u4 : j_V} (r1 : -2147483648 ≤ x2 ∧ x2 ≤ 2147483647 := by omega) (k1 : 0 < x2 → j_J G jm_Pp_readLine d B S 44 [jr_ a0, ji_ x1, ji_ x2, ji_ x3, u4] [ji_ 1] (N, K, M, g) Q) (k2 : x2 ≤ 0 → j_J G jm_Pp_readLine d B S 19 [jr_ a0, ji_ x1, ji_ x2, ji_ x3, u4] [] (N, K, M, g) Q) : j_J G jm_Pp_readLine d B S 15 [jr_ a0, ji_ x1, ji_ x2, ji_ x3, u4] [] (N, K, M, g) Q :=
  j_iload_n d_Pp_readLine_15 rfl <| j_if_gt d_Pp_readLine_16 r1 (fun h => j_iconst d_Pp_readLine_39 <| j_goto d_Pp_readLine_40 <| k1 h) k2
theorem s_Pp_readLine_19 {G : j_G} {d B S N : Nat} {K : Nat → Option (Nat × Nat)} {M : Nat → Int → Int} {g : Nat → Int → Option Nat} {Q : j_O → j_S → Prop} {a0 : Nat} {x1 x2 x3 : Int} {u4 : j_V} (r1 : -2147483648 ≤ x3 ∧ x3 ≤ 2147483647 := by omega) (k1 : x3 ≠ 45 → j_J G jm_Pp_readLine d B S 29 [jr_ a0, ji_ x1, ji_ x2, ji_ x3, u4] [] (N, K, M, g) Q) (k2 : x3 = 45 → j_J G jm_Pp_readLine d B S 25 [jr_ a0, ji_ x1, ji_ x2, ji_ x3, u4] [] (N, K, M, g) Q) : j_J G jm_Pp_readLine d B S 19 [jr_ a0, ji_ x1, ji_ x2, ji_ x3, u4] [] (N, K, M, g) Q :=
  j_iload_n d_Pp_readLine_19 rfl <| j_bipush d_Pp_readLine_20 (by decide) <| j_icmp_ne d_Pp_readLine_22 r1 (by decide) k1 k2
theorem s_Pp_readLine_25 {G : j_G} {d B S N : Nat} {K : Nat → Option (Nat × Nat)} {M : Nat → Int → Int} {g : Nat → Int → Option Nat} {Q : j_O → j_S → Prop} {a0 : Nat} {x1 x2 x3 : Int} {u4 : j_V} (r1 : -2147483648 ≤ x1 ∧ x1 ≤ 2147483647 := by omega) (k1 : 0 < x1 → j_J G jm_Pp_readLine d B S 44 [jr_ a0, ji_ x1, ji_ x2, ji_ x3, u4] [ji_ 1] (N, K, M, g) Q) (k2 : x1 ≤ 0 → j_J G jm_Pp_readLine d B S 29 [jr_ a0, ji_ x1, ji_ x2, ji_ x3, u4] [] (N, K, M, g) Q) : j_J G jm_Pp_readLine d B S 25 [jr_ a0, ji_ x1, ji_ x2, ji_ x3, u4] [] (N, K, M, g) Q :=
  j_iload_n d_Pp_readLine_25 rfl <| j_if_gt d_Pp_readLine_26 r1 (fun h => j_iconst d_Pp_readLine_39 <| j_goto d_Pp_readLine_40 <| k1 h) k2
theorem s_Pp_readLine_29 {G : j_G} {d B S N : Nat} {K : Nat → Option (Nat × Nat)} {M : Nat → Int → Int} {g : Nat → Int → Option Nat} {Q : j_O → j_S → Prop} {a0 : Nat} {x1 x2 x3 : Int} {u4 : j_V} (r1 : -2147483648 ≤ x3 ∧ x3 ≤ 2147483647 := by omega) (k1 : x3 ≠ 43 → j_J G jm_Pp_readLine d B S 44 [jr_ a0, ji_ x1, ji_ x2, ji_ x3, u4] [ji_ 0] (N, K, M, g) Q) (k2 : x3 = 43 → j_J G jm_Pp_readLine d B S 35 [jr_ a0, ji_ x1, ji_ x2, ji_ x3, u4] [] (N, K, M, g) Q) : j_J G jm_Pp_readLine d B S 29 [jr_ a0, ji_ x1, ji_ x2, ji_ x3, u4] [] (N, K, M, g) Q :=
  j_iload_n d_Pp_readLine_29 rfl <| j_bipush d_Pp_readLine_30 (by decide) <| j_icmp_ne d_Pp_readLine_32 r1 (by decide) (fun h => j_iconst d_Pp_readLine_43 <| k1 h) k2
theorem s_Pp_readLine_35 {G : j_G} {d B S N : Nat} {K : Nat → Option (Nat × Nat)} {M : Nat → Int → Int} {g : Nat → Int → Option Nat} {Q : j_O → j_S → Prop} {a0 : Nat} {x1 x2 x3 : Int} {u4 : j_V} (r1 : -2147483648 ≤ x2 ∧ x2 ≤ 2147483647 := by omega) (k1 : x2 ≤ 0 → j_J G jm_Pp_readLine d B S 44 [jr_ a0, ji_ x1, ji_ x2, ji_ x3, u4] [ji_ 0] (N, K, M, g) Q) (k2 : 0 < x2 → j_J G jm_Pp_readLine d B S 44 [jr_ a0, ji_ x1, ji_ x2, ji_ x3, u4] [ji_ 1] (N, K, M, g) Q) : j_J G jm_Pp_readLine d B S 35 [jr_ a0, ji_ x1, ji_ x2, ji_ x3, u4] [] (N, K, M, g) Q :=
  j_iload_n d_Pp_readLine_35 rfl <| j_if_le d_Pp_readLine_36 r1 (fun h => j_iconst d_Pp_readLine_43 <| k1 h) (fun h => j_iconst d_Pp_readLine_39 <| j_goto d_Pp_readLine_40 <| k2 h)
theorem s_Pp_readLine_39 {G : j_G} {d B S N : Nat} {K : Nat → Option (Nat × Nat)} {M : Nat → Int → Int} {g : Nat → Int → Option Nat} {Q : j_O → j_S → Prop} {a0 : Nat} {x1 x2 x3 : Int} {u4 : j_V}  (k1 : j_J G jm_Pp_readLine d B S 44 [jr_ a0, ji_ x1, ji_ x2, ji_ x3, u4] [ji_ 1] (N, K, M, g) Q) : j_J G jm_Pp_readLine d B S 39 [jr_ a0, ji_ x1, ji_ x2, ji_ x3, u4] [] (N, K, M, g) Q :=
  j_iconst d_Pp_readLine_39 <| j_goto d_Pp_readLine_40 k1
theorem s_Pp_readLine_43 {G : j_G} {d B S N : Nat} {K : Nat → Option (Nat × Nat)} {M : Nat → Int → Int} {g : Nat → Int → Option Nat} {Q : j_O → j_S → Prop} {a0 : Nat} {x1 x2 x3 : Int} {u4 : j_V}  (k1 : j_J G jm_Pp_readLine d B S 44 [jr_ a0, ji_ x1, ji_ x2, ji_ x3, u4] [ji_ 0] (N, K, M, g) Q) : j_J G jm_Pp_readLine d B S 43 [jr_ a0, ji_ x1, ji_ x2, ji_ x3, u4] [] (N, K, M, g) Q :=
  j_iconst d_Pp_readLine_43 <| k1
theorem s_Pp_readLine_44 {G : j_G} {d B S N : Nat} {K : Nat → Option (Nat × Nat)} {M : Nat → Int → Int} {g : Nat → Int → Option Nat} {Q : j_O → j_S → Prop} {a0 : Nat} {x1 x2 x3 t0 : Int} {u4 : j_V} (r1 : -2147483648 ≤ t0 ∧ t0 ≤ 2147483647 := by omega) (k1 : t0 ≠ 0 → j_J G jm_Pp_readLine d B S 55 [jr_ a0, ji_ x1, ji_ x2, ji_ x3, ji_ t0] [] (N, K, M, g) Q) (k2 : t0 = 0 → j_J G jm_Pp_readLine d B S 51 [jr_ a0, ji_ x1, ji_ x2, ji_ x3, ji_ t0] [] (N, K, M, g) Q) : j_J G jm_Pp_readLine d B S 44 [jr_ a0, ji_ x1, ji_ x2, ji_ x3, u4] [ji_ t0] (N, K, M, g) Q :=
  j_istore d_Pp_readLine_44 rfl rfl <| j_iload d_Pp_readLine_46 rfl <| j_if_ne d_Pp_readLine_48 r1 k1 k2
theorem s_Pp_readLine_51 {G : j_G} {d B S N : Nat} {K : Nat → Option (Nat × Nat)} {M : Nat → Int → Int} {g : Nat → Int → Option Nat} {Q : j_O → j_S → Prop} {a0 : Nat} {x1 x2 x3 x4 : Int} {B' S' : Nat} {Q' : j_O → j_S → Prop} (hk1 : K a0 = some (0, 7)) (hC : j_Ct G jm_Pp_fail d B' S' [jr_ a0] (N, K, M, g) Q') (k2 : ∀ x σ', Q' (.inr x) σ' → Q (.inr x) σ') (k1 : ∀ v σ', Q' (.inl v) σ' → j_J G jm_Pp_readLine (d + 1) B S 55 [jr_ a0, ji_ x1, ji_ x2, ji_ x3, ji_ x4] (v.toList ++ []) σ' Q) : j_J G jm_Pp_readLine (d + 1) (B' + B) (S' + S) 51 [jr_ a0, ji_ x1, ji_ x2, ji_ x3, ji_ x4] [] (N, K, M, g) Q :=
  j_aload_n d_Pp_readLine_51 rfl <| j_callX (as := []) (rest := []) rfl d_Pp_readLine_52 c_Pp_37 hk1 rfl (Nat.le_of_ble_eq_true rfl) hC k2 k1
theorem s_Pp_readLine_55 {G : j_G} {d B S N : Nat} {K : Nat → Option (Nat × Nat)} {M : Nat → Int → Int} {g : Nat → Int → Option Nat} {Q : j_O → j_S → Prop} {a0 : Nat} {x1 x2 x3 x4 : Int} {q : Int → (Nat → Int → Int) → Prop} (hk1 : K a0 = some (0, 7)) (hC : j_Ct G jm_Pp_look d 0 0 [jr_ a0] (N, K, (j_up M a0 2 ((M a0 2) + 1)), g) (j_pI N K g q)) (k1 : ∀ z M', q z M' → j_J G jm_Pp_readLine (d + 1) B S 69 [jr_ a0, ji_ x1, ji_ x2, ji_ x3, ji_ x4] [ji_ z] (N, K, M', g) Q) : j_J G jm_Pp_readLine (d + 1) B S 55 [jr_ a0, ji_ x1, ji_ x2, ji_ x3, ji_ x4] [] (N, K, M, g) Q :=
  j_aload_n d_Pp_readLine_55 rfl <| j_dupR d_Pp_readLine_56 <| j_getI d_Pp_readLine_57 f_Pp_23 hk1 <| j_iconst d_Pp_readLine_60 <| j_iadd d_Pp_readLine_61 <| j_putI d_Pp_readLine_62 f_Pp_23 (⟨_, rfl, Or.inl rfl⟩) rfl hk1 <| j_aload_n d_Pp_readLine_65 rfl <| j_aVI (as := []) (rest := []) d_Pp_readLine_66 c_Pp_33 hk1 rfl (Nat.le_of_ble_eq_true rfl) hC k1
theorem s_Pp_readLine_69 {G : j_G} {d B S N : Nat} {K : Nat → Option (Nat × Nat)} {M : Nat → Int → Int} {g : Nat → Int → Option Nat} {Q : j_O → j_S → Prop} {a0 : Nat} {x1 x2 x3 x4 t0 : Int} {q : Int → (Nat → Int → Int) → Prop} (hC : j_Ct G jm_LP_isLetter d 0 0 [ji_ t0] (N, K, M, g) (j_pI N K g q)) (k1 : ∀ z M', q z M' → j_J G jm_Pp_readLine (d + 1) B S 72 [jr_ a0, ji_ x1, ji_ x2, ji_ x3, ji_ x4] [ji_ z] (N, K, M', g) Q) : j_J G jm_Pp_readLine (d + 1) B S 69 [jr_ a0, ji_ x1, ji_ x2, ji_ x3, ji_ x4] [ji_ t0] (N, K, M, g) Q :=
  j_aSI (as := [ji_ t0]) (rest := []) d_Pp_readLine_69 c_Pp_44 rfl (Nat.le_of_ble_eq_true rfl) hC k1
theorem s_Pp_readLine_72 {G : j_G} {d B S N : Nat} {K : Nat → Option (Nat × Nat)} {M : Nat → Int → Int} {g : Nat → Int → Option Nat} {Q : j_O → j_S → Prop} {a0 : Nat} {x1 x2 x3 x4 t0 : Int} (r1 : -2147483648 ≤ t0 ∧ t0 ≤ 2147483647 := by omega) (k1 : t0 ≠ 0 → j_J G jm_Pp_readLine d B S 79 [jr_ a0, ji_ x1, ji_ x2, ji_ x3, ji_ x4] [] (N, K, M, g) Q) (k2 : t0 = 0 → j_J G jm_Pp_readLine d B S 75 [jr_ a0, ji_ x1, ji_ x2, ji_ x3, ji_ x4] [] (N, K, M, g) Q) : j_J G jm_Pp_readLine d B S 72 [jr_ a0, ji_ x1, ji_ x2, ji_ x3, ji_ x4] [ji_ t0] (N, K, M, g) Q :=
  j_if_ne d_Pp_readLine_72 r1 k1 k2
theorem s_Pp_readLine_75 {G : j_G} {d B S N : Nat} {K : Nat → Option (Nat × Nat)} {M : Nat → Int → Int} {g : Nat → Int → Option Nat} {Q : j_O → j_S → Prop} {a0 : Nat} {x1 x2 x3 x4 : Int} {B' S' : Nat} {Q' : j_O → j_S → Prop} (hk1 : K a0 = some (0, 7)) (hC : j_Ct G jm_Pp_fail d B' S' [jr_ a0] (N, K, M, g) Q') (k2 : ∀ x σ', Q' (.inr x) σ' → Q (.inr x) σ') (k1 : ∀ v σ', Q' (.inl v) σ' → j_J G jm_Pp_readLine (d + 1) B S 79 [jr_ a0, ji_ x1, ji_ x2, ji_ x3, ji_ x4] (v.toList ++ []) σ' Q) : j_J G jm_Pp_readLine (d + 1) (B' + B) (S' + S) 75 [jr_ a0, ji_ x1, ji_ x2, ji_ x3, ji_ x4] [] (N, K, M, g) Q :=
  j_aload_n d_Pp_readLine_75 rfl <| j_callX (as := []) (rest := []) rfl d_Pp_readLine_76 c_Pp_37 hk1 rfl (Nat.le_of_ble_eq_true rfl) hC k2 k1
theorem s_Pp_readLine_79 {G : j_G} {d B S N : Nat} {K : Nat → Option (Nat × Nat)} {M : Nat → Int → Int} {g : Nat → Int → Option Nat} {Q : j_O → j_S → Prop} {a0 : Nat} {x1 x2 x3 x4 : Int} {B' S' : Nat} {Q' : j_O → j_S → Prop} (hk1 : K a0 = some (0, 7)) (hC : j_Ct G jm_Pp_expect d B' S' [jr_ a0, ji_ 10] (N, K, (j_up M a0 2 ((M a0 2) + 1)), g) Q') (k2 : ∀ x σ', Q' (.inr x) σ' → Q (.inr x) σ') (k1 : ∀ v σ', Q' (.inl v) σ' → j_J G jm_Pp_readLine (d + 1) B S 95 [jr_ a0, ji_ x1, ji_ x2, ji_ x3, ji_ x4] (v.toList ++ []) σ' Q) : j_J G jm_Pp_readLine (d + 1) (B' + B) (S' + S) 79 [jr_ a0, ji_ x1, ji_ x2, ji_ x3, ji_ x4] [] (N, K, M, g) Q :=
  j_aload_n d_Pp_readLine_79 rfl <| j_dupR d_Pp_readLine_80 <| j_getI d_Pp_readLine_81 f_Pp_23 hk1 <| j_iconst d_Pp_readLine_84 <| j_iadd d_Pp_readLine_85 <| j_putI d_Pp_readLine_86 f_Pp_23 (⟨_, rfl, Or.inl rfl⟩) rfl hk1 <| j_aload_n d_Pp_readLine_89 rfl <| j_bipush d_Pp_readLine_90 (by decide) <| j_callX (as := [ji_ 10]) (rest := []) rfl d_Pp_readLine_92 c_Pp_48 hk1 rfl (Nat.le_of_ble_eq_true rfl) hC k2 k1
theorem s_Pp_readLine_95 {G : j_G} {d B S N : Nat} {K : Nat → Option (Nat × Nat)} {M : Nat → Int → Int} {g : Nat → Int → Option Nat} {Q : j_O → j_S → Prop} {a0 : Nat} {x1 x2 x3 x4 : Int}  (k1 : Q (.inl (some (ji_ x3))) (N, K, M, g)) : j_J G jm_Pp_readLine d B S 95 [jr_ a0, ji_ x1, ji_ x2, ji_ x3, ji_ x4] [] (N, K, M, g) Q :=
  j_iload_n d_Pp_readLine_95 rfl <| j_ireturn d_Pp_readLine_96 rfl k1
-- Pp_readHunk 0: new: by hand
theorem s_Pp_readHunk_7 {G : j_G} {d B S N : Nat} {K : Nat → Option (Nat × Nat)} {M : Nat → Int → Int} {g : Nat → Int → Option Nat} {Q : j_O → j_S → Prop} {a0 b0 : Nat} {u1 u2 u3 u4 : j_V} {B' S' : Nat} {Q' : j_O → j_S → Prop} (hk1 : K a0 = some (0, 7)) (hC : j_Ct G jm_Pp_expect d B' S' [jr_ a0, ji_ 64] (N, K, M, g) Q') (k2 : ∀ x σ', Q' (.inr x) σ' → Q (.inr x) σ') (k1 : ∀ v σ', Q' (.inl v) σ' → j_J G jm_Pp_readHunk (d + 1) B S 14 [jr_ a0, jr_ b0, u2, u3, u4] (v.toList ++ []) σ' Q) : j_J G jm_Pp_readHunk (d + 1) (B' + B) (S' + S) 7 [jr_ a0, u1, u2, u3, u4] [jr_ b0] (N, K, M, g) Q :=
  j_astore_n d_Pp_readHunk_7 rfl rfl <| j_aload_n d_Pp_readHunk_8 rfl <| j_bipush d_Pp_readHunk_9 (by decide) <| j_callX (as := [ji_ 64]) (rest := []) rfl d_Pp_readHunk_11 c_Pp_48 hk1 rfl (Nat.le_of_ble_eq_true rfl) hC k2 k1
theorem s_Pp_readHunk_14 {G : j_G} {d B S N : Nat} {K : Nat → Option (Nat × Nat)} {M : Nat → Int → Int} {g : Nat → Int → Option Nat} {Q : j_O → j_S → Prop} {a0 a1 : Nat} {u2 u3 u4 : j_V} {B' S' : Nat} {Q' : j_O → j_S → Prop} (hk1 : K a0 = some (0, 7)) (hC : j_Ct G jm_Pp_readNumber d B' S' [jr_ a0] (N, K, M, g) Q') (k2 : ∀ x σ', Q' (.inr x) σ' → Q (.inr x) σ') (k1 : ∀ v σ', Q' (.inl v) σ' → j_J G jm_Pp_readHunk (d + 1) B S 19 [jr_ a0, jr_ a1, u2, u3, u4] (v.toList ++ [jr_ a1]) σ' Q) : j_J G jm_Pp_readHunk (d + 1) (B' + B) (S' + S) 14 [jr_ a0, jr_ a1, u2, u3, u4] [] (N, K, M, g) Q :=
  j_aload_n d_Pp_readHunk_14 rfl <| j_aload_n d_Pp_readHunk_15 rfl <| j_callX (as := []) (rest := [jr_ a1]) rfl d_Pp_readHunk_16 c_Pp_54 hk1 rfl (Nat.le_of_ble_eq_true rfl) hC k2 k1
theorem s_Pp_readHunk_19 {G : j_G} {d B S N : Nat} {K : Nat → Option (Nat × Nat)} {M : Nat → Int → Int} {g : Nat → Int → Option Nat} {Q : j_O → j_S → Prop} {a0 a1 b0 : Nat} {t1 : Int} {u2 u3 u4 : j_V} {B' S' : Nat} {Q' : j_O → j_S → Prop} (hk1 : K b0 = some (0, 6)) (hk2 : K a0 = some (0, 7)) (hC : j_Ct G jm_Pp_expect d B' S' [jr_ a0, ji_ 44] (N, K, (j_up M b0 0 t1), g) Q') (k2 : ∀ x σ', Q' (.inr x) σ' → Q (.inr x) σ') (k1 : ∀ v σ', Q' (.inl v) σ' → j_J G jm_Pp_readHunk (d + 1) B S 28 [jr_ a0, jr_ a1, u2, u3, u4] (v.toList ++ []) σ' Q) : j_J G jm_Pp_readHunk (d + 1) (B' + B) (S' + S) 19 [jr_ a0, jr_ a1, u2, u3, u4] [ji_ t1, jr_ b0] (N, K, M, g) Q :=
  j_putI d_Pp_readHunk_19 f_Pp_57 (⟨_, rfl, Or.inl rfl⟩) rfl hk1 <| j_aload_n d_Pp_readHunk_22 rfl <| j_bipush d_Pp_readHunk_23 (by decide) <| j_callX (as := [ji_ 44]) (rest := []) rfl d_Pp_readHunk_25 c_Pp_48 hk2 rfl (Nat.le_of_ble_eq_true rfl) hC k2 k1
theorem s_Pp_readHunk_28 {G : j_G} {d B S N : Nat} {K : Nat → Option (Nat × Nat)} {M : Nat → Int → Int} {g : Nat → Int → Option Nat} {Q : j_O → j_S → Prop} {a0 a1 : Nat} {u2 u3 u4 : j_V} {B' S' : Nat} {Q' : j_O → j_S → Prop} (hk1 : K a0 = some (0, 7)) (hC : j_Ct G jm_Pp_readNumber d B' S' [jr_ a0] (N, K, M, g) Q') (k2 : ∀ x σ', Q' (.inr x) σ' → Q (.inr x) σ') (k1 : ∀ v σ', Q' (.inl v) σ' → j_J G jm_Pp_readHunk (d + 1) B S 33 [jr_ a0, jr_ a1, u2, u3, u4] (v.toList ++ [jr_ a1]) σ' Q) : j_J G jm_Pp_readHunk (d + 1) (B' + B) (S' + S) 28 [jr_ a0, jr_ a1, u2, u3, u4] [] (N, K, M, g) Q :=
  j_aload_n d_Pp_readHunk_28 rfl <| j_aload_n d_Pp_readHunk_29 rfl <| j_callX (as := []) (rest := [jr_ a1]) rfl d_Pp_readHunk_30 c_Pp_54 hk1 rfl (Nat.le_of_ble_eq_true rfl) hC k2 k1
theorem s_Pp_readHunk_33 {G : j_G} {d B S N : Nat} {K : Nat → Option (Nat × Nat)} {M : Nat → Int → Int} {g : Nat → Int → Option Nat} {Q : j_O → j_S → Prop} {a0 a1 b0 : Nat} {t1 : Int} {u2 u3 u4 : j_V} {B' S' : Nat} {Q' : j_O → j_S → Prop} (hk1 : K b0 = some (0, 6)) (hk2 : K a0 = some (0, 7)) (hC : j_Ct G jm_Pp_expect d B' S' [jr_ a0, ji_ 32] (N, K, (j_up M b0 1 t1), g) Q') (k2 : ∀ x σ', Q' (.inr x) σ' → Q (.inr x) σ') (k1 : ∀ v σ', Q' (.inl v) σ' → j_J G jm_Pp_readHunk (d + 1) B S 42 [jr_ a0, jr_ a1, u2, u3, u4] (v.toList ++ []) σ' Q) : j_J G jm_Pp_readHunk (d + 1) (B' + B) (S' + S) 33 [jr_ a0, jr_ a1, u2, u3, u4] [ji_ t1, jr_ b0] (N, K, M, g) Q :=
  j_putI d_Pp_readHunk_33 f_Pp_60 (⟨_, rfl, Or.inl rfl⟩) rfl hk1 <| j_aload_n d_Pp_readHunk_36 rfl <| j_bipush d_Pp_readHunk_37 (by decide) <| j_callX (as := [ji_ 32]) (rest := []) rfl d_Pp_readHunk_39 c_Pp_48 hk2 rfl (Nat.le_of_ble_eq_true rfl) hC k2 k1
theorem s_Pp_readHunk_42 {G : j_G} {d B S N : Nat} {K : Nat → Option (Nat × Nat)} {M : Nat → Int → Int} {g : Nat → Int → Option Nat} {Q : j_O → j_S → Prop} {a0 a1 : Nat} {u2 u3 u4 : j_V} {B' S' : Nat} {Q' : j_O → j_S → Prop} (hk1 : K a0 = some (0, 7)) (hC : j_Ct G jm_Pp_readNumber d B' S' [jr_ a0] (N, K, M, g) Q') (k2 : ∀ x σ', Q' (.inr x) σ' → Q (.inr x) σ') (k1 : ∀ v σ', Q' (.inl v) σ' → j_J G jm_Pp_readHunk (d + 1) B S 46 [jr_ a0, jr_ a1, u2, u3, u4] (v.toList ++ []) σ' Q) : j_J G jm_Pp_readHunk (d + 1) (B' + B) (S' + S) 42 [jr_ a0, jr_ a1, u2, u3, u4] [] (N, K, M, g) Q :=
  j_aload_n d_Pp_readHunk_42 rfl <| j_callX (as := []) (rest := []) rfl d_Pp_readHunk_43 c_Pp_54 hk1 rfl (Nat.le_of_ble_eq_true rfl) hC k2 k1
theorem s_Pp_readHunk_46 {G : j_G} {d B S N : Nat} {K : Nat → Option (Nat × Nat)} {M : Nat → Int → Int} {g : Nat → Int → Option Nat} {Q : j_O → j_S → Prop} {a0 a1 : Nat} {t0 : Int} {u2 u3 u4 : j_V} {B' S' : Nat} {Q' : j_O → j_S → Prop} (hk1 : K a0 = some (0, 7)) (hC : j_Ct G jm_Pp_expect d B' S' [jr_ a0, ji_ 44] (N, K, M, g) Q') (k2 : ∀ x σ', Q' (.inr x) σ' → Q (.inr x) σ') (k1 : ∀ v σ', Q' (.inl v) σ' → j_J G jm_Pp_readHunk (d + 1) B S 53 [jr_ a0, jr_ a1, u2, u3, u4] (v.toList ++ []) σ' Q) : j_J G jm_Pp_readHunk (d + 1) (B' + B) (S' + S) 46 [jr_ a0, jr_ a1, u2, u3, u4] [ji_ t0] (N, K, M, g) Q :=
  j_popI d_Pp_readHunk_46 <| j_aload_n d_Pp_readHunk_47 rfl <| j_bipush d_Pp_readHunk_48 (by decide) <| j_callX (as := [ji_ 44]) (rest := []) rfl d_Pp_readHunk_50 c_Pp_48 hk1 rfl (Nat.le_of_ble_eq_true rfl) hC k2 k1
theorem s_Pp_readHunk_53 {G : j_G} {d B S N : Nat} {K : Nat → Option (Nat × Nat)} {M : Nat → Int → Int} {g : Nat → Int → Option Nat} {Q : j_O → j_S → Prop} {a0 a1 : Nat} {u2 u3 u4 : j_V} {B' S' : Nat} {Q' : j_O → j_S → Prop} (hk1 : K a0 = some (0, 7)) (hC : j_Ct G jm_Pp_readNumber d B' S' [jr_ a0] (N, K, M, g) Q') (k2 : ∀ x σ', Q' (.inr x) σ' → Q (.inr x) σ') (k1 : ∀ v σ', Q' (.inl v) σ' → j_J G jm_Pp_readHunk (d + 1) B S 58 [jr_ a0, jr_ a1, u2, u3, u4] (v.toList ++ [jr_ a1]) σ' Q) : j_J G jm_Pp_readHunk (d + 1) (B' + B) (S' + S) 53 [jr_ a0, jr_ a1, u2, u3, u4] [] (N, K, M, g) Q :=
  j_aload_n d_Pp_readHunk_53 rfl <| j_aload_n d_Pp_readHunk_54 rfl <| j_callX (as := []) (rest := [jr_ a1]) rfl d_Pp_readHunk_55 c_Pp_54 hk1 rfl (Nat.le_of_ble_eq_true rfl) hC k2 k1
theorem s_Pp_readHunk_58 {G : j_G} {d B S N : Nat} {K : Nat → Option (Nat × Nat)} {M : Nat → Int → Int} {g : Nat → Int → Option Nat} {Q : j_O → j_S → Prop} {a0 a1 b0 : Nat} {t1 : Int} {u2 u3 u4 : j_V} (hk1 : K b0 = some (0, 6)) (hk2 : K a1 = some (0, 6)) (r1 : -2147483648 ≤ (((j_up M b0 2 t1) a1 1) + ((j_up M b0 2 t1) a1 2)) ∧ (((j_up M b0 2 t1) a1 1) + ((j_up M b0 2 t1) a1 2)) ≤ 2147483647 := by omega) (k1 : (((j_up M b0 2 t1) a1 1) + ((j_up M b0 2 t1) a1 2)) ≠ 0 → j_J G jm_Pp_readHunk d B S 77 [jr_ a0, jr_ a1, u2, u3, u4] [] (N, K, (j_up M b0 2 t1), g) Q) (k2 : (((j_up M b0 2 t1) a1 1) + ((j_up M b0 2 t1) a1 2)) = 0 → j_J G jm_Pp_readHunk d B S 73 [jr_ a0, jr_ a1, u2, u3, u4] [] (N, K, (j_up M b0 2 t1), g) Q) : j_J G jm_Pp_readHunk d B S 58 [jr_ a0, jr_ a1, u2, u3, u4] [ji_ t1, jr_ b0] (N, K, M, g) Q :=
  j_putI d_Pp_readHunk_58 f_Pp_63 (⟨_, rfl, Or.inl rfl⟩) rfl hk1 <| j_aload_n d_Pp_readHunk_61 rfl <| j_getI d_Pp_readHunk_62 f_Pp_60 hk2 <| j_aload_n d_Pp_readHunk_65 rfl <| j_getI d_Pp_readHunk_66 f_Pp_63 hk2 <| j_iadd d_Pp_readHunk_69 <| j_if_ne d_Pp_readHunk_70 r1 k1 k2
theorem s_Pp_readHunk_73 {G : j_G} {d B S N : Nat} {K : Nat → Option (Nat × Nat)} {M : Nat → Int → Int} {g : Nat → Int → Option Nat} {Q : j_O → j_S → Prop} {a0 a1 : Nat} {u2 u3 u4 : j_V} {B' S' : Nat} {Q' : j_O → j_S → Prop} (hk1 : K a0 = some (0, 7)) (hC : j_Ct G jm_Pp_fail d B' S' [jr_ a0] (N, K, M, g) Q') (k2 : ∀ x σ', Q' (.inr x) σ' → Q (.inr x) σ') (k1 : ∀ v σ', Q' (.inl v) σ' → j_J G jm_Pp_readHunk (d + 1) B S 77 [jr_ a0, jr_ a1, u2, u3, u4] (v.toList ++ []) σ' Q) : j_J G jm_Pp_readHunk (d + 1) (B' + B) (S' + S) 73 [jr_ a0, jr_ a1, u2, u3, u4] [] (N, K, M, g) Q :=
  j_aload_n d_Pp_readHunk_73 rfl <| j_callX (as := []) (rest := []) rfl d_Pp_readHunk_74 c_Pp_37 hk1 rfl (Nat.le_of_ble_eq_true rfl) hC k2 k1
theorem s_Pp_readHunk_77 {G : j_G} {d B S N : Nat} {K : Nat → Option (Nat × Nat)} {M : Nat → Int → Int} {g : Nat → Int → Option Nat} {Q : j_O → j_S → Prop} {a0 a1 : Nat} {u2 u3 u4 : j_V} {B' S' : Nat} {Q' : j_O → j_S → Prop} (hk1 : K a0 = some (0, 7)) (hC : j_Ct G jm_Pp_expect d B' S' [jr_ a0, ji_ 10] (N, K, M, g) Q') (k2 : ∀ x σ', Q' (.inr x) σ' → Q (.inr x) σ') (k1 : ∀ v σ', Q' (.inl v) σ' → j_J G jm_Pp_readHunk (d + 1) B S 83 [jr_ a0, jr_ a1, u2, u3, u4] (v.toList ++ []) σ' Q) : j_J G jm_Pp_readHunk (d + 1) (B' + B) (S' + S) 77 [jr_ a0, jr_ a1, u2, u3, u4] [] (N, K, M, g) Q :=
  j_aload_n d_Pp_readHunk_77 rfl <| j_bipush d_Pp_readHunk_78 (by decide) <| j_callX (as := [ji_ 10]) (rest := []) rfl d_Pp_readHunk_80 c_Pp_48 hk1 rfl (Nat.le_of_ble_eq_true rfl) hC k2 k1
theorem s_Pp_readHunk_83 {G : j_G} {d B S N : Nat} {K : Nat → Option (Nat × Nat)} {M : Nat → Int → Int} {g : Nat → Int → Option Nat} {Q : j_O → j_S → Prop} {a0 a1 : Nat} {u2 u3 u4 : j_V} (hk1 : K a0 = some (0, 7)) (hk2 : K a1 = some (0, 6)) (k1 : j_J G jm_Pp_readHunk d B S 101 [jr_ a0, jr_ a1, ji_ ((j_up M a1 3 (M a0 2)) a1 1), ji_ ((j_up M a1 3 (M a0 2)) a1 2), u4] [] (N, K, (j_up M a1 3 (M a0 2)), g) Q) : j_J G jm_Pp_readHunk d B S 83 [jr_ a0, jr_ a1, u2, u3, u4] [] (N, K, M, g) Q :=
  j_aload_n d_Pp_readHunk_83 rfl <| j_aload_n d_Pp_readHunk_84 rfl <| j_getI d_Pp_readHunk_85 f_Pp_23 hk1 <| j_putI d_Pp_readHunk_88 f_Pp_66 (⟨_, rfl, Or.inl rfl⟩) rfl hk2 <| j_aload_n d_Pp_readHunk_91 rfl <| j_getI d_Pp_readHunk_92 f_Pp_60 hk2 <| j_istore_n d_Pp_readHunk_95 rfl rfl <| j_aload_n d_Pp_readHunk_96 rfl <| j_getI d_Pp_readHunk_97 f_Pp_63 hk2 <| j_istore_n d_Pp_readHunk_100 rfl rfl <| k1
theorem s_Pp_readHunk_101 {G : j_G} {d B S N : Nat} {K : Nat → Option (Nat × Nat)} {M : Nat → Int → Int} {g : Nat → Int → Option Nat} {Q : j_O → j_S → Prop} {a0 a1 : Nat} {x2 x3 : Int} {u4 : j_V} (r1 : -2147483648 ≤ (x2 + x3) ∧ (x2 + x3) ≤ 2147483647 := by omega) (k1 : (x2 + x3) ≤ 0 → j_J G jm_Pp_readHunk d B S 158 [jr_ a0, jr_ a1, ji_ x2, ji_ x3, u4] [] (N, K, M, g) Q) (k2 : 0 < (x2 + x3) → j_J G jm_Pp_readHunk d B S 107 [jr_ a0, jr_ a1, ji_ x2, ji_ x3, u4] [] (N, K, M, g) Q) : j_J G jm_Pp_readHunk d B S 101 [jr_ a0, jr_ a1, ji_ x2, ji_ x3, u4] [] (N, K, M, g) Q :=
  j_iload_n d_Pp_readHunk_101 rfl <| j_iload_n d_Pp_readHunk_102 rfl <| j_iadd d_Pp_readHunk_103 <| j_if_le d_Pp_readHunk_104 r1 k1 k2
theorem s_Pp_readHunk_107 {G : j_G} {d B S N : Nat} {K : Nat → Option (Nat × Nat)} {M : Nat → Int → Int} {g : Nat → Int → Option Nat} {Q : j_O → j_S → Prop} {a0 a1 : Nat} {x2 x3 : Int} {u4 : j_V} {B' S' : Nat} {Q' : j_O → j_S → Prop} (hk1 : K a0 = some (0, 7)) (hC : j_Ct G jm_Pp_readLine d B' S' [jr_ a0, ji_ x2, ji_ x3] (N, K, M, g) Q') (k2 : ∀ x σ', Q' (.inr x) σ' → Q (.inr x) σ') (k1 : ∀ v σ', Q' (.inl v) σ' → j_J G jm_Pp_readHunk (d + 1) B S 113 [jr_ a0, jr_ a1, ji_ x2, ji_ x3, u4] (v.toList ++ []) σ' Q) : j_J G jm_Pp_readHunk (d + 1) (B' + B) (S' + S) 107 [jr_ a0, jr_ a1, ji_ x2, ji_ x3, u4] [] (N, K, M, g) Q :=
  j_aload_n d_Pp_readHunk_107 rfl <| j_iload_n d_Pp_readHunk_108 rfl <| j_iload_n d_Pp_readHunk_109 rfl <| j_callX (as := [ji_ x2, ji_ x3]) (rest := []) rfl d_Pp_readHunk_110 c_Pp_69 hk1 rfl (Nat.le_of_ble_eq_true rfl) hC k2 k1
theorem s_Pp_readHunk_113 {G : j_G} {d B S N : Nat} {K : Nat → Option (Nat × Nat)} {M : Nat → Int → Int} {g : Nat → Int → Option Nat} {Q : j_O → j_S → Prop} {a0 a1 : Nat} {x2 x3 t0 : Int} {u4 : j_V} (r1 : -2147483648 ≤ t0 ∧ t0 ≤ 2147483647 := by omega) (k1 : t0 ≠ 43 → j_J G jm_Pp_readHunk d B S 128 [jr_ a0, jr_ a1, ji_ x2, ji_ x3, ji_ t0] [ji_ 1, ji_ x2] (N, K, M, g) Q) (k2 : t0 = 43 → j_J G jm_Pp_readHunk d B S 128 [jr_ a0, jr_ a1, ji_ x2, ji_ x3, ji_ t0] [ji_ 0, ji_ x2] (N, K, M, g) Q) : j_J G jm_Pp_readHunk d B S 113 [jr_ a0, jr_ a1, ji_ x2, ji_ x3, u4] [ji_ t0] (N, K, M, g) Q :=
  j_istore d_Pp_readHunk_113 rfl rfl <| j_iload_n d_Pp_readHunk_115 rfl <| j_iload d_Pp_readHunk_116 rfl <| j_bipush d_Pp_readHunk_118 (by decide) <| j_icmp_ne d_Pp_readHunk_120 r1 (by decide) (fun h => j_iconst d_Pp_readHunk_127 <| k1 h) (fun h => j_iconst d_Pp_readHunk_123 <| j_goto d_Pp_readHunk_124 <| k2 h)
theorem s_Pp_readHunk_123 {G : j_G} {d B S N : Nat} {K : Nat → Option (Nat × Nat)} {M : Nat → Int → Int} {g : Nat → Int → Option Nat} {Q : j_O → j_S → Prop} {a0 a1 : Nat} {x2 x3 x4 t0 : Int}  (k1 : j_J G jm_Pp_readHunk d B S 128 [jr_ a0, jr_ a1, ji_ x2, ji_ x3, ji_ x4] [ji_ 0, ji_ t0] (N, K, M, g) Q) : j_J G jm_Pp_readHunk d B S 123 [jr_ a0, jr_ a1, ji_ x2, ji_ x3, ji_ x4] [ji_ t0] (N, K, M, g) Q :=
  j_iconst d_Pp_readHunk_123 <| j_goto d_Pp_readHunk_124 k1
theorem s_Pp_readHunk_127 {G : j_G} {d B S N : Nat} {K : Nat → Option (Nat × Nat)} {M : Nat → Int → Int} {g : Nat → Int → Option Nat} {Q : j_O → j_S → Prop} {a0 a1 : Nat} {x2 x3 x4 t0 : Int}  (k1 : j_J G jm_Pp_readHunk d B S 128 [jr_ a0, jr_ a1, ji_ x2, ji_ x3, ji_ x4] [ji_ 1, ji_ t0] (N, K, M, g) Q) : j_J G jm_Pp_readHunk d B S 127 [jr_ a0, jr_ a1, ji_ x2, ji_ x3, ji_ x4] [ji_ t0] (N, K, M, g) Q :=
  j_iconst d_Pp_readHunk_127 <| k1
theorem s_Pp_readHunk_128 {G : j_G} {d B S N : Nat} {K : Nat → Option (Nat × Nat)} {M : Nat → Int → Int} {g : Nat → Int → Option Nat} {Q : j_O → j_S → Prop} {a0 a1 : Nat} {x2 x3 x4 t0 t1 : Int} (r1 : -2147483648 ≤ x4 ∧ x4 ≤ 2147483647 := by omega) (k1 : x4 ≠ 45 → j_J G jm_Pp_readHunk d B S 143 [jr_ a0, jr_ a1, ji_ (t0 - t1), ji_ x3, ji_ x4] [ji_ 1, ji_ x3] (N, K, M, g) Q) (k2 : x4 = 45 → j_J G jm_Pp_readHunk d B S 143 [jr_ a0, jr_ a1, ji_ (t0 - t1), ji_ x3, ji_ x4] [ji_ 0, ji_ x3] (N, K, M, g) Q) : j_J G jm_Pp_readHunk d B S 128 [jr_ a0, jr_ a1, ji_ x2, ji_ x3, ji_ x4] [ji_ t1, ji_ t0] (N, K, M, g) Q :=
  j_isub d_Pp_readHunk_128 <| j_istore_n d_Pp_readHunk_129 rfl rfl <| j_iload_n d_Pp_readHunk_130 rfl <| j_iload d_Pp_readHunk_131 rfl <| j_bipush d_Pp_readHunk_133 (by decide) <| j_icmp_ne d_Pp_readHunk_135 r1 (by decide) (fun h => j_iconst d_Pp_readHunk_142 <| k1 h) (fun h => j_iconst d_Pp_readHunk_138 <| j_goto d_Pp_readHunk_139 <| k2 h)
theorem s_Pp_readHunk_138 {G : j_G} {d B S N : Nat} {K : Nat → Option (Nat × Nat)} {M : Nat → Int → Int} {g : Nat → Int → Option Nat} {Q : j_O → j_S → Prop} {a0 a1 : Nat} {x2 x3 x4 t0 : Int}  (k1 : j_J G jm_Pp_readHunk d B S 143 [jr_ a0, jr_ a1, ji_ x2, ji_ x3, ji_ x4] [ji_ 0, ji_ t0] (N, K, M, g) Q) : j_J G jm_Pp_readHunk d B S 138 [jr_ a0, jr_ a1, ji_ x2, ji_ x3, ji_ x4] [ji_ t0] (N, K, M, g) Q :=
  j_iconst d_Pp_readHunk_138 <| j_goto d_Pp_readHunk_139 k1
theorem s_Pp_readHunk_142 {G : j_G} {d B S N : Nat} {K : Nat → Option (Nat × Nat)} {M : Nat → Int → Int} {g : Nat → Int → Option Nat} {Q : j_O → j_S → Prop} {a0 a1 : Nat} {x2 x3 x4 t0 : Int}  (k1 : j_J G jm_Pp_readHunk d B S 143 [jr_ a0, jr_ a1, ji_ x2, ji_ x3, ji_ x4] [ji_ 1, ji_ t0] (N, K, M, g) Q) : j_J G jm_Pp_readHunk d B S 142 [jr_ a0, jr_ a1, ji_ x2, ji_ x3, ji_ x4] [ji_ t0] (N, K, M, g) Q :=
  j_iconst d_Pp_readHunk_142 <| k1
theorem s_Pp_readHunk_143 {G : j_G} {d B S N : Nat} {K : Nat → Option (Nat × Nat)} {M : Nat → Int → Int} {g : Nat → Int → Option Nat} {Q : j_O → j_S → Prop} {a0 a1 : Nat} {x2 x3 x4 t0 t1 : Int} (hk1 : K a1 = some (0, 6)) (k1 : j_J G jm_Pp_readHunk d B S 101 [jr_ a0, jr_ a1, ji_ x2, ji_ (t0 - t1), ji_ x4] [] (N, K, (j_up M a1 4 ((M a1 4) + 1)), g) Q) : j_J G jm_Pp_readHunk d B S 143 [jr_ a0, jr_ a1, ji_ x2, ji_ x3, ji_ x4] [ji_ t1, ji_ t0] (N, K, M, g) Q :=
  j_isub d_Pp_readHunk_143 <| j_istore_n d_Pp_readHunk_144 rfl rfl <| j_aload_n d_Pp_readHunk_145 rfl <| j_dupR d_Pp_readHunk_146 <| j_getI d_Pp_readHunk_147 f_Pp_73 hk1 <| j_iconst d_Pp_readHunk_150 <| j_iadd d_Pp_readHunk_151 <| j_putI d_Pp_readHunk_152 f_Pp_73 (⟨_, rfl, Or.inl rfl⟩) rfl hk1 <| j_goto d_Pp_readHunk_155 k1
theorem s_Pp_readHunk_158 {G : j_G} {d B S N : Nat} {K : Nat → Option (Nat × Nat)} {M : Nat → Int → Int} {g : Nat → Int → Option Nat} {Q : j_O → j_S → Prop} {a0 a1 : Nat} {x2 x3 : Int} {u4 : j_V}  (k1 : Q (.inl (some (jr_ a1))) (N, K, M, g)) : j_J G jm_Pp_readHunk d B S 158 [jr_ a0, jr_ a1, ji_ x2, ji_ x3, u4] [] (N, K, M, g) Q :=
  j_aload_n d_Pp_readHunk_158 rfl <| j_areturn d_Pp_readHunk_159 rfl (Or.inl ⟨_, rfl⟩) k1
