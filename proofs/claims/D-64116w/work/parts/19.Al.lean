/-! decode facts, pool facts and segments: AL_init, AL_clear, AL_add1, AL_add3, AL_get, AL_elementData, AL_size, AL_grow0, AL_grow1, Ob_checkIndex, Pc_checkIndex, Su_newLength, As_copyOf2, As_copyOf3, Ab_init, Ac_init (printed by gen/mk.py) -/
theorem d_AL_init_0 : j_D jm_AL_init 0 (.aload_n 0) 1 1 := ⟨by decide +kernel, rfl⟩
theorem d_AL_init_1 : j_D jm_AL_init 1 (.invokespecial 1) 3 4 := ⟨by decide +kernel, rfl⟩
theorem d_AL_init_4 : j_D jm_AL_init 4 (.iload_n 1) 1 5 := ⟨by decide +kernel, rfl⟩
theorem d_AL_init_5 : j_E jm_AL_init 5 (.ifCond .le) 14 8 19 := ⟨by decide +kernel, rfl, by decide⟩
theorem d_AL_init_8 : j_D jm_AL_init 8 (.aload_n 0) 1 9 := ⟨by decide +kernel, rfl⟩
theorem d_AL_init_9 : j_D jm_AL_init 9 (.iload_n 1) 1 10 := ⟨by decide +kernel, rfl⟩
theorem d_AL_init_10 : j_D jm_AL_init 10 (.anewarray 7) 3 13 := ⟨by decide +kernel, rfl⟩
theorem d_AL_init_13 : j_D jm_AL_init 13 (.putfield 9) 3 16 := ⟨by decide +kernel, rfl⟩
theorem d_AL_init_16 : j_E jm_AL_init 16 .goto 44 19 60 := ⟨by decide +kernel, rfl, by decide⟩
theorem d_AL_init_19 : j_D jm_AL_init 19 (.iload_n 1) 1 20 := ⟨by decide +kernel, rfl⟩
theorem d_AL_init_20 : j_E jm_AL_init 20 (.ifCond .ne) 13 23 33 := ⟨by decide +kernel, rfl, by decide⟩
theorem d_AL_init_23 : j_D jm_AL_init 23 (.aload_n 0) 1 24 := ⟨by decide +kernel, rfl⟩
theorem d_AL_init_24 : j_D jm_AL_init 24 (.getstatic 15) 3 27 := ⟨by decide +kernel, rfl⟩
theorem d_AL_init_27 : j_D jm_AL_init 27 (.putfield 9) 3 30 := ⟨by decide +kernel, rfl⟩
theorem d_AL_init_30 : j_E jm_AL_init 30 .goto 30 33 60 := ⟨by decide +kernel, rfl, by decide⟩
theorem d_AL_init_33 : j_D jm_AL_init 33 (.new 18) 3 36 := ⟨by decide +kernel, rfl⟩
theorem d_AL_init_36 : j_D jm_AL_init 36 .dup 1 37 := ⟨by decide +kernel, rfl⟩
theorem d_AL_init_37 : j_D jm_AL_init 37 (.new 20) 3 40 := ⟨by decide +kernel, rfl⟩
theorem d_AL_init_40 : j_D jm_AL_init 40 .dup 1 41 := ⟨by decide +kernel, rfl⟩
theorem d_AL_init_41 : j_D jm_AL_init 41 (.invokespecial 22) 3 44 := ⟨by decide +kernel, rfl⟩
theorem d_AL_init_44 : j_D jm_AL_init 44 (.ldc 23) 2 46 := ⟨by decide +kernel, rfl⟩
theorem d_AL_init_46 : j_D jm_AL_init 46 (.invokevirtual 25) 3 49 := ⟨by decide +kernel, rfl⟩
theorem d_AL_init_49 : j_D jm_AL_init 49 (.iload_n 1) 1 50 := ⟨by decide +kernel, rfl⟩
theorem d_AL_init_50 : j_D jm_AL_init 50 (.invokevirtual 29) 3 53 := ⟨by decide +kernel, rfl⟩
theorem d_AL_init_53 : j_D jm_AL_init 53 (.invokevirtual 32) 3 56 := ⟨by decide +kernel, rfl⟩
theorem d_AL_init_56 : j_D jm_AL_init 56 (.invokespecial 36) 3 59 := ⟨by decide +kernel, rfl⟩
theorem d_AL_init_59 : j_D jm_AL_init 59 .athrow 1 60 := ⟨by decide +kernel, rfl⟩
theorem d_AL_init_60 : j_D jm_AL_init 60 .return_ 1 61 := ⟨by decide +kernel, rfl⟩
theorem d_AL_clear_0 : j_D jm_AL_clear 0 (.aload_n 0) 1 1 := ⟨by decide +kernel, rfl⟩
theorem d_AL_clear_1 : j_D jm_AL_clear 1 .dup 1 2 := ⟨by decide +kernel, rfl⟩
theorem d_AL_clear_2 : j_D jm_AL_clear 2 (.getfield 63) 3 5 := ⟨by decide +kernel, rfl⟩
theorem d_AL_clear_5 : j_D jm_AL_clear 5 (.iconst 1) 1 6 := ⟨by decide +kernel, rfl⟩
theorem d_AL_clear_6 : j_D jm_AL_clear 6 .iadd 1 7 := ⟨by decide +kernel, rfl⟩
theorem d_AL_clear_7 : j_D jm_AL_clear 7 (.putfield 63) 3 10 := ⟨by decide +kernel, rfl⟩
theorem d_AL_clear_10 : j_D jm_AL_clear 10 (.aload_n 0) 1 11 := ⟨by decide +kernel, rfl⟩
theorem d_AL_clear_11 : j_D jm_AL_clear 11 (.getfield 9) 3 14 := ⟨by decide +kernel, rfl⟩
theorem d_AL_clear_14 : j_D jm_AL_clear 14 (.astore_n 1) 1 15 := ⟨by decide +kernel, rfl⟩
theorem d_AL_clear_15 : j_D jm_AL_clear 15 (.aload_n 0) 1 16 := ⟨by decide +kernel, rfl⟩
theorem d_AL_clear_16 : j_D jm_AL_clear 16 (.getfield 48) 3 19 := ⟨by decide +kernel, rfl⟩
theorem d_AL_clear_19 : j_D jm_AL_clear 19 (.istore_n 2) 1 20 := ⟨by decide +kernel, rfl⟩
theorem d_AL_clear_20 : j_D jm_AL_clear 20 (.aload_n 0) 1 21 := ⟨by decide +kernel, rfl⟩
theorem d_AL_clear_21 : j_D jm_AL_clear 21 (.iconst 0) 1 22 := ⟨by decide +kernel, rfl⟩
theorem d_AL_clear_22 : j_D jm_AL_clear 22 .dup_x1 1 23 := ⟨by decide +kernel, rfl⟩
theorem d_AL_clear_23 : j_D jm_AL_clear 23 (.putfield 48) 3 26 := ⟨by decide +kernel, rfl⟩
theorem d_AL_clear_26 : j_D jm_AL_clear 26 (.istore_n 3) 1 27 := ⟨by decide +kernel, rfl⟩
theorem d_AL_clear_27 : j_D jm_AL_clear 27 (.iload_n 3) 1 28 := ⟨by decide +kernel, rfl⟩
theorem d_AL_clear_28 : j_D jm_AL_clear 28 (.iload_n 2) 1 29 := ⟨by decide +kernel, rfl⟩
theorem d_AL_clear_29 : j_E jm_AL_clear 29 (.if_icmp .ge) 13 32 42 := ⟨by decide +kernel, rfl, by decide⟩
theorem d_AL_clear_32 : j_D jm_AL_clear 32 (.aload_n 1) 1 33 := ⟨by decide +kernel, rfl⟩
theorem d_AL_clear_33 : j_D jm_AL_clear 33 (.iload_n 3) 1 34 := ⟨by decide +kernel, rfl⟩
theorem d_AL_clear_34 : j_D jm_AL_clear 34 .aconst_null 1 35 := ⟨by decide +kernel, rfl⟩
theorem d_AL_clear_35 : j_D jm_AL_clear 35 .aastore 1 36 := ⟨by decide +kernel, rfl⟩
theorem d_AL_clear_36 : j_D jm_AL_clear 36 (.iinc 3 1) 3 39 := ⟨by decide +kernel, rfl⟩
theorem d_AL_clear_39 : j_E jm_AL_clear 39 .goto (-12) 42 27 := ⟨by decide +kernel, rfl, by decide⟩
theorem d_AL_clear_42 : j_D jm_AL_clear 42 .return_ 1 43 := ⟨by decide +kernel, rfl⟩
theorem d_AL_add1_0 : j_D jm_AL_add1 0 (.aload_n 0) 1 1 := ⟨by decide +kernel, rfl⟩
theorem d_AL_add1_1 : j_D jm_AL_add1 1 .dup 1 2 := ⟨by decide +kernel, rfl⟩
theorem d_AL_add1_2 : j_D jm_AL_add1 2 (.getfield 63) 3 5 := ⟨by decide +kernel, rfl⟩
theorem d_AL_add1_5 : j_D jm_AL_add1 5 (.iconst 1) 1 6 := ⟨by decide +kernel, rfl⟩
theorem d_AL_add1_6 : j_D jm_AL_add1 6 .iadd 1 7 := ⟨by decide +kernel, rfl⟩
theorem d_AL_add1_7 : j_D jm_AL_add1 7 (.putfield 63) 3 10 := ⟨by decide +kernel, rfl⟩
theorem d_AL_add1_10 : j_D jm_AL_add1 10 (.aload_n 0) 1 11 := ⟨by decide +kernel, rfl⟩
theorem d_AL_add1_11 : j_D jm_AL_add1 11 (.aload_n 1) 1 12 := ⟨by decide +kernel, rfl⟩
theorem d_AL_add1_12 : j_D jm_AL_add1 12 (.aload_n 0) 1 13 := ⟨by decide +kernel, rfl⟩
theorem d_AL_add1_13 : j_D jm_AL_add1 13 (.getfield 9) 3 16 := ⟨by decide +kernel, rfl⟩
theorem d_AL_add1_16 : j_D jm_AL_add1 16 (.aload_n 0) 1 17 := ⟨by decide +kernel, rfl⟩
theorem d_AL_add1_17 : j_D jm_AL_add1 17 (.getfield 48) 3 20 := ⟨by decide +kernel, rfl⟩
theorem d_AL_add1_20 : j_D jm_AL_add1 20 (.invokevirtual 131) 3 23 := ⟨by decide +kernel, rfl⟩
theorem d_AL_add1_23 : j_D jm_AL_add1 23 (.iconst 1) 1 24 := ⟨by decide +kernel, rfl⟩
theorem d_AL_add1_24 : j_D jm_AL_add1 24 .ireturn 1 25 := ⟨by decide +kernel, rfl⟩
theorem d_AL_add3_0 : j_D jm_AL_add3 0 (.iload_n 3) 1 1 := ⟨by decide +kernel, rfl⟩
theorem d_AL_add3_1 : j_D jm_AL_add3 1 (.aload_n 2) 1 2 := ⟨by decide +kernel, rfl⟩
theorem d_AL_add3_2 : j_D jm_AL_add3 2 .arraylength 1 3 := ⟨by decide +kernel, rfl⟩
theorem d_AL_add3_3 : j_E jm_AL_add3 3 (.if_icmp .ne) 8 6 11 := ⟨by decide +kernel, rfl, by decide⟩
theorem d_AL_add3_6 : j_D jm_AL_add3 6 (.aload_n 0) 1 7 := ⟨by decide +kernel, rfl⟩
theorem d_AL_add3_7 : j_D jm_AL_add3 7 (.invokevirtual 129) 3 10 := ⟨by decide +kernel, rfl⟩
theorem d_AL_add3_10 : j_D jm_AL_add3 10 (.astore_n 2) 1 11 := ⟨by decide +kernel, rfl⟩
theorem d_AL_add3_11 : j_D jm_AL_add3 11 (.aload_n 2) 1 12 := ⟨by decide +kernel, rfl⟩
theorem d_AL_add3_12 : j_D jm_AL_add3 12 (.iload_n 3) 1 13 := ⟨by decide +kernel, rfl⟩
theorem d_AL_add3_13 : j_D jm_AL_add3 13 (.aload_n 1) 1 14 := ⟨by decide +kernel, rfl⟩
theorem d_AL_add3_14 : j_D jm_AL_add3 14 .aastore 1 15 := ⟨by decide +kernel, rfl⟩
theorem d_AL_add3_15 : j_D jm_AL_add3 15 (.aload_n 0) 1 16 := ⟨by decide +kernel, rfl⟩
theorem d_AL_add3_16 : j_D jm_AL_add3 16 (.iload_n 3) 1 17 := ⟨by decide +kernel, rfl⟩
theorem d_AL_add3_17 : j_D jm_AL_add3 17 (.iconst 1) 1 18 := ⟨by decide +kernel, rfl⟩
theorem d_AL_add3_18 : j_D jm_AL_add3 18 .iadd 1 19 := ⟨by decide +kernel, rfl⟩
theorem d_AL_add3_19 : j_D jm_AL_add3 19 (.putfield 48) 3 22 := ⟨by decide +kernel, rfl⟩
theorem d_AL_add3_22 : j_D jm_AL_add3 22 .return_ 1 23 := ⟨by decide +kernel, rfl⟩
theorem d_AL_get_0 : j_D jm_AL_get 0 (.iload_n 1) 1 1 := ⟨by decide +kernel, rfl⟩
theorem d_AL_get_1 : j_D jm_AL_get 1 (.aload_n 0) 1 2 := ⟨by decide +kernel, rfl⟩
theorem d_AL_get_2 : j_D jm_AL_get 2 (.getfield 48) 3 5 := ⟨by decide +kernel, rfl⟩
theorem d_AL_get_5 : j_D jm_AL_get 5 (.invokestatic 118) 3 8 := ⟨by decide +kernel, rfl⟩
theorem d_AL_get_8 : j_D jm_AL_get 8 .pop 1 9 := ⟨by decide +kernel, rfl⟩
theorem d_AL_get_9 : j_D jm_AL_get 9 (.aload_n 0) 1 10 := ⟨by decide +kernel, rfl⟩
theorem d_AL_get_10 : j_D jm_AL_get 10 (.iload_n 1) 1 11 := ⟨by decide +kernel, rfl⟩
theorem d_AL_get_11 : j_D jm_AL_get 11 (.invokevirtual 123) 3 14 := ⟨by decide +kernel, rfl⟩
theorem d_AL_get_14 : j_D jm_AL_get 14 .areturn 1 15 := ⟨by decide +kernel, rfl⟩
theorem d_AL_elementData_0 : j_D jm_AL_elementData 0 (.aload_n 0) 1 1 := ⟨by decide +kernel, rfl⟩
theorem d_AL_elementData_1 : j_D jm_AL_elementData 1 (.getfield 9) 3 4 := ⟨by decide +kernel, rfl⟩
theorem d_AL_elementData_4 : j_D jm_AL_elementData 4 (.iload_n 1) 1 5 := ⟨by decide +kernel, rfl⟩
theorem d_AL_elementData_5 : j_D jm_AL_elementData 5 .aaload 1 6 := ⟨by decide +kernel, rfl⟩
theorem d_AL_elementData_6 : j_D jm_AL_elementData 6 .areturn 1 7 := ⟨by decide +kernel, rfl⟩
theorem d_AL_size_0 : j_D jm_AL_size 0 (.aload_n 0) 1 1 := ⟨by decide +kernel, rfl⟩
theorem d_AL_size_1 : j_D jm_AL_size 1 (.getfield 48) 3 4 := ⟨by decide +kernel, rfl⟩
theorem d_AL_size_4 : j_D jm_AL_size 4 .ireturn 1 5 := ⟨by decide +kernel, rfl⟩
theorem d_AL_grow0_0 : j_D jm_AL_grow0 0 (.aload_n 0) 1 1 := ⟨by decide +kernel, rfl⟩
theorem d_AL_grow0_1 : j_D jm_AL_grow0 1 (.aload_n 0) 1 2 := ⟨by decide +kernel, rfl⟩
theorem d_AL_grow0_2 : j_D jm_AL_grow0 2 (.getfield 48) 3 5 := ⟨by decide +kernel, rfl⟩
theorem d_AL_grow0_5 : j_D jm_AL_grow0 5 (.iconst 1) 1 6 := ⟨by decide +kernel, rfl⟩
theorem d_AL_grow0_6 : j_D jm_AL_grow0 6 .iadd 1 7 := ⟨by decide +kernel, rfl⟩
theorem d_AL_grow0_7 : j_D jm_AL_grow0 7 (.invokevirtual 69) 3 10 := ⟨by decide +kernel, rfl⟩
theorem d_AL_grow0_10 : j_D jm_AL_grow0 10 .areturn 1 11 := ⟨by decide +kernel, rfl⟩
theorem d_AL_grow1_0 : j_D jm_AL_grow1 0 (.aload_n 0) 1 1 := ⟨by decide +kernel, rfl⟩
theorem d_AL_grow1_1 : j_D jm_AL_grow1 1 (.getfield 9) 3 4 := ⟨by decide +kernel, rfl⟩
theorem d_AL_grow1_4 : j_D jm_AL_grow1 4 .arraylength 1 5 := ⟨by decide +kernel, rfl⟩
theorem d_AL_grow1_5 : j_D jm_AL_grow1 5 (.istore_n 2) 1 6 := ⟨by decide +kernel, rfl⟩
theorem d_AL_grow1_6 : j_D jm_AL_grow1 6 (.iload_n 2) 1 7 := ⟨by decide +kernel, rfl⟩
theorem d_AL_grow1_7 : j_E jm_AL_grow1 7 (.ifCond .gt) 13 10 20 := ⟨by decide +kernel, rfl, by decide⟩
theorem d_AL_grow1_10 : j_D jm_AL_grow1 10 (.aload_n 0) 1 11 := ⟨by decide +kernel, rfl⟩
theorem d_AL_grow1_11 : j_D jm_AL_grow1 11 (.getfield 9) 3 14 := ⟨by decide +kernel, rfl⟩
theorem d_AL_grow1_14 : j_D jm_AL_grow1 14 (.getstatic 39) 3 17 := ⟨by decide +kernel, rfl⟩
theorem d_AL_grow1_17 : j_E jm_AL_grow1 17 (.if_acmp .eq) 28 20 45 := ⟨by decide +kernel, rfl, by decide⟩
theorem d_AL_grow1_20 : j_D jm_AL_grow1 20 (.iload_n 2) 1 21 := ⟨by decide +kernel, rfl⟩
theorem d_AL_grow1_21 : j_D jm_AL_grow1 21 (.iload_n 1) 1 22 := ⟨by decide +kernel, rfl⟩
theorem d_AL_grow1_22 : j_D jm_AL_grow1 22 (.iload_n 2) 1 23 := ⟨by decide +kernel, rfl⟩
theorem d_AL_grow1_23 : j_D jm_AL_grow1 23 .isub 1 24 := ⟨by decide +kernel, rfl⟩
theorem d_AL_grow1_24 : j_D jm_AL_grow1 24 (.iload_n 2) 1 25 := ⟨by decide +kernel, rfl⟩
theorem d_AL_grow1_25 : j_D jm_AL_grow1 25 (.iconst 1) 1 26 := ⟨by decide +kernel, rfl⟩
theorem d_AL_grow1_26 : j_D jm_AL_grow1 26 .ishr 1 27 := ⟨by decide +kernel, rfl⟩
theorem d_AL_grow1_27 : j_D jm_AL_grow1 27 (.invokestatic 73) 3 30 := ⟨by decide +kernel, rfl⟩
theorem d_AL_grow1_30 : j_D jm_AL_grow1 30 (.istore_n 3) 1 31 := ⟨by decide +kernel, rfl⟩
theorem d_AL_grow1_31 : j_D jm_AL_grow1 31 (.aload_n 0) 1 32 := ⟨by decide +kernel, rfl⟩
theorem d_AL_grow1_32 : j_D jm_AL_grow1 32 (.aload_n 0) 1 33 := ⟨by decide +kernel, rfl⟩
theorem d_AL_grow1_33 : j_D jm_AL_grow1 33 (.getfield 9) 3 36 := ⟨by decide +kernel, rfl⟩
theorem d_AL_grow1_36 : j_D jm_AL_grow1 36 (.iload_n 3) 1 37 := ⟨by decide +kernel, rfl⟩
theorem d_AL_grow1_37 : j_D jm_AL_grow1 37 (.invokestatic 66) 3 40 := ⟨by decide +kernel, rfl⟩
theorem d_AL_grow1_40 : j_D jm_AL_grow1 40 .dup_x1 1 41 := ⟨by decide +kernel, rfl⟩
theorem d_AL_grow1_41 : j_D jm_AL_grow1 41 (.putfield 9) 3 44 := ⟨by decide +kernel, rfl⟩
theorem d_AL_grow1_44 : j_D jm_AL_grow1 44 .areturn 1 45 := ⟨by decide +kernel, rfl⟩
theorem d_AL_grow1_45 : j_D jm_AL_grow1 45 (.aload_n 0) 1 46 := ⟨by decide +kernel, rfl⟩
theorem d_AL_grow1_46 : j_D jm_AL_grow1 46 (.bipush 10) 2 48 := ⟨by decide +kernel, rfl⟩
theorem d_AL_grow1_48 : j_D jm_AL_grow1 48 (.iload_n 1) 1 49 := ⟨by decide +kernel, rfl⟩
theorem d_AL_grow1_49 : j_D jm_AL_grow1 49 (.invokestatic 79) 3 52 := ⟨by decide +kernel, rfl⟩
theorem d_AL_grow1_52 : j_D jm_AL_grow1 52 (.anewarray 7) 3 55 := ⟨by decide +kernel, rfl⟩
theorem d_AL_grow1_55 : j_D jm_AL_grow1 55 .dup_x1 1 56 := ⟨by decide +kernel, rfl⟩
theorem d_AL_grow1_56 : j_D jm_AL_grow1 56 (.putfield 9) 3 59 := ⟨by decide +kernel, rfl⟩
theorem d_AL_grow1_59 : j_D jm_AL_grow1 59 .areturn 1 60 := ⟨by decide +kernel, rfl⟩
theorem d_Ob_checkIndex_0 : j_D jm_Ob_checkIndex 0 (.iload_n 0) 1 1 := ⟨by decide +kernel, rfl⟩
theorem d_Ob_checkIndex_1 : j_D jm_Ob_checkIndex 1 (.iload_n 1) 1 2 := ⟨by decide +kernel, rfl⟩
theorem d_Ob_checkIndex_2 : j_D jm_Ob_checkIndex 2 .aconst_null 1 3 := ⟨by decide +kernel, rfl⟩
theorem d_Ob_checkIndex_3 : j_D jm_Ob_checkIndex 3 (.invokestatic 105) 3 6 := ⟨by decide +kernel, rfl⟩
theorem d_Ob_checkIndex_6 : j_D jm_Ob_checkIndex 6 .ireturn 1 7 := ⟨by decide +kernel, rfl⟩
theorem d_Pc_checkIndex_0 : j_D jm_Pc_checkIndex 0 (.iload_n 0) 1 1 := ⟨by decide +kernel, rfl⟩
theorem d_Pc_checkIndex_1 : j_E jm_Pc_checkIndex 1 (.ifCond .lt) 8 4 9 := ⟨by decide +kernel, rfl, by decide⟩
theorem d_Pc_checkIndex_4 : j_D jm_Pc_checkIndex 4 (.iload_n 0) 1 5 := ⟨by decide +kernel, rfl⟩
theorem d_Pc_checkIndex_5 : j_D jm_Pc_checkIndex 5 (.iload_n 1) 1 6 := ⟨by decide +kernel, rfl⟩
theorem d_Pc_checkIndex_6 : j_E jm_Pc_checkIndex 6 (.if_icmp .lt) 10 9 16 := ⟨by decide +kernel, rfl, by decide⟩
theorem d_Pc_checkIndex_9 : j_D jm_Pc_checkIndex 9 (.aload_n 2) 1 10 := ⟨by decide +kernel, rfl⟩
theorem d_Pc_checkIndex_10 : j_D jm_Pc_checkIndex 10 (.iload_n 0) 1 11 := ⟨by decide +kernel, rfl⟩
theorem d_Pc_checkIndex_11 : j_D jm_Pc_checkIndex 11 (.iload_n 1) 1 12 := ⟨by decide +kernel, rfl⟩
theorem d_Pc_checkIndex_12 : j_D jm_Pc_checkIndex 12 (.invokestatic 95) 3 15 := ⟨by decide +kernel, rfl⟩
theorem d_Pc_checkIndex_15 : j_D jm_Pc_checkIndex 15 .athrow 1 16 := ⟨by decide +kernel, rfl⟩
theorem d_Pc_checkIndex_16 : j_D jm_Pc_checkIndex 16 (.iload_n 0) 1 17 := ⟨by decide +kernel, rfl⟩
theorem d_Pc_checkIndex_17 : j_D jm_Pc_checkIndex 17 .ireturn 1 18 := ⟨by decide +kernel, rfl⟩
theorem d_Su_newLength_0 : j_D jm_Su_newLength 0 (.iload_n 0) 1 1 := ⟨by decide +kernel, rfl⟩
theorem d_Su_newLength_1 : j_D jm_Su_newLength 1 (.iload_n 1) 1 2 := ⟨by decide +kernel, rfl⟩
theorem d_Su_newLength_2 : j_D jm_Su_newLength 2 (.iload_n 2) 1 3 := ⟨by decide +kernel, rfl⟩
theorem d_Su_newLength_3 : j_D jm_Su_newLength 3 (.invokestatic 194) 3 6 := ⟨by decide +kernel, rfl⟩
theorem d_Su_newLength_6 : j_D jm_Su_newLength 6 .iadd 1 7 := ⟨by decide +kernel, rfl⟩
theorem d_Su_newLength_7 : j_D jm_Su_newLength 7 (.istore_n 3) 1 8 := ⟨by decide +kernel, rfl⟩
theorem d_Su_newLength_8 : j_D jm_Su_newLength 8 (.iconst 0) 1 9 := ⟨by decide +kernel, rfl⟩
theorem d_Su_newLength_9 : j_D jm_Su_newLength 9 (.iload_n 3) 1 10 := ⟨by decide +kernel, rfl⟩
theorem d_Su_newLength_10 : j_E jm_Su_newLength 10 (.if_icmp .ge) 11 13 21 := ⟨by decide +kernel, rfl, by decide⟩
theorem d_Su_newLength_13 : j_D jm_Su_newLength 13 (.iload_n 3) 1 14 := ⟨by decide +kernel, rfl⟩
theorem d_Su_newLength_14 : j_D jm_Su_newLength 14 (.ldc 200) 2 16 := ⟨by decide +kernel, rfl⟩
theorem d_Su_newLength_16 : j_E jm_Su_newLength 16 (.if_icmp .gt) 5 19 21 := ⟨by decide +kernel, rfl, by decide⟩
theorem d_Su_newLength_19 : j_D jm_Su_newLength 19 (.iload_n 3) 1 20 := ⟨by decide +kernel, rfl⟩
theorem d_Su_newLength_20 : j_D jm_Su_newLength 20 .ireturn 1 21 := ⟨by decide +kernel, rfl⟩
theorem d_Su_newLength_21 : j_D jm_Su_newLength 21 (.iload_n 0) 1 22 := ⟨by decide +kernel, rfl⟩
theorem d_Su_newLength_22 : j_D jm_Su_newLength 22 (.iload_n 1) 1 23 := ⟨by decide +kernel, rfl⟩
theorem d_Su_newLength_23 : j_D jm_Su_newLength 23 (.invokestatic 201) 3 26 := ⟨by decide +kernel, rfl⟩
theorem d_Su_newLength_26 : j_D jm_Su_newLength 26 .ireturn 1 27 := ⟨by decide +kernel, rfl⟩
theorem d_As_copyOf2_0 : j_D jm_As_copyOf2 0 (.aload_n 0) 1 1 := ⟨by decide +kernel, rfl⟩
theorem d_As_copyOf2_1 : j_D jm_As_copyOf2 1 (.iload_n 1) 1 2 := ⟨by decide +kernel, rfl⟩
theorem d_As_copyOf2_2 : j_D jm_As_copyOf2 2 (.aload_n 0) 1 3 := ⟨by decide +kernel, rfl⟩
theorem d_As_copyOf2_3 : j_D jm_As_copyOf2 3 (.invokevirtual 86) 3 6 := ⟨by decide +kernel, rfl⟩
theorem d_As_copyOf2_6 : j_D jm_As_copyOf2 6 (.invokestatic 300) 3 9 := ⟨by decide +kernel, rfl⟩
theorem d_As_copyOf2_9 : j_D jm_As_copyOf2 9 .areturn 1 10 := ⟨by decide +kernel, rfl⟩
theorem d_As_copyOf3_0 : j_D jm_As_copyOf3 0 (.aload_n 2) 1 1 := ⟨by decide +kernel, rfl⟩
theorem d_As_copyOf3_1 : j_D jm_As_copyOf3 1 (.ldc 110) 2 3 := ⟨by decide +kernel, rfl⟩
theorem d_As_copyOf3_3 : j_E jm_As_copyOf3 3 (.if_acmp .ne) 10 6 13 := ⟨by decide +kernel, rfl, by decide⟩
theorem d_As_copyOf3_6 : j_D jm_As_copyOf3 6 (.iload_n 1) 1 7 := ⟨by decide +kernel, rfl⟩
theorem d_As_copyOf3_7 : j_D jm_As_copyOf3 7 (.anewarray 2) 3 10 := ⟨by decide +kernel, rfl⟩
theorem d_As_copyOf3_10 : j_E jm_As_copyOf3 10 .goto 14 13 24 := ⟨by decide +kernel, rfl, by decide⟩
theorem d_As_copyOf3_13 : j_D jm_As_copyOf3 13 (.aload_n 2) 1 14 := ⟨by decide +kernel, rfl⟩
theorem d_As_copyOf3_14 : j_D jm_As_copyOf3 14 (.invokevirtual 90) 3 17 := ⟨by decide +kernel, rfl⟩
theorem d_As_copyOf3_17 : j_D jm_As_copyOf3 17 (.iload_n 1) 1 18 := ⟨by decide +kernel, rfl⟩
theorem d_As_copyOf3_18 : j_D jm_As_copyOf3 18 (.invokestatic 95) 3 21 := ⟨by decide +kernel, rfl⟩
theorem d_As_copyOf3_21 : j_D jm_As_copyOf3 21 (.checkcast 110) 3 24 := ⟨by decide +kernel, rfl⟩
theorem d_As_copyOf3_24 : j_D jm_As_copyOf3 24 (.astore_n 3) 1 25 := ⟨by decide +kernel, rfl⟩
theorem d_As_copyOf3_25 : j_D jm_As_copyOf3 25 (.aload_n 0) 1 26 := ⟨by decide +kernel, rfl⟩
theorem d_As_copyOf3_26 : j_D jm_As_copyOf3 26 (.iconst 0) 1 27 := ⟨by decide +kernel, rfl⟩
theorem d_As_copyOf3_27 : j_D jm_As_copyOf3 27 (.aload_n 3) 1 28 := ⟨by decide +kernel, rfl⟩
theorem d_As_copyOf3_28 : j_D jm_As_copyOf3 28 (.iconst 0) 1 29 := ⟨by decide +kernel, rfl⟩
theorem d_As_copyOf3_29 : j_D jm_As_copyOf3 29 (.aload_n 0) 1 30 := ⟨by decide +kernel, rfl⟩
theorem d_As_copyOf3_30 : j_D jm_As_copyOf3 30 .arraylength 1 31 := ⟨by decide +kernel, rfl⟩
theorem d_As_copyOf3_31 : j_D jm_As_copyOf3 31 (.iload_n 1) 1 32 := ⟨by decide +kernel, rfl⟩
theorem d_As_copyOf3_32 : j_D jm_As_copyOf3 32 (.invokestatic 304) 3 35 := ⟨by decide +kernel, rfl⟩
theorem d_As_copyOf3_35 : j_D jm_As_copyOf3 35 (.invokestatic 150) 3 38 := ⟨by decide +kernel, rfl⟩
theorem d_As_copyOf3_38 : j_D jm_As_copyOf3 38 (.aload_n 3) 1 39 := ⟨by decide +kernel, rfl⟩
theorem d_As_copyOf3_39 : j_D jm_As_copyOf3 39 .areturn 1 40 := ⟨by decide +kernel, rfl⟩
theorem d_Ab_init_0 : j_D jm_Ab_init 0 (.aload_n 0) 1 1 := ⟨by decide +kernel, rfl⟩
theorem d_Ab_init_1 : j_D jm_Ab_init 1 (.invokespecial 1) 3 4 := ⟨by decide +kernel, rfl⟩
theorem d_Ab_init_4 : j_D jm_Ab_init 4 (.aload_n 0) 1 5 := ⟨by decide +kernel, rfl⟩
theorem d_Ab_init_5 : j_D jm_Ab_init 5 (.iconst 0) 1 6 := ⟨by decide +kernel, rfl⟩
theorem d_Ab_init_6 : j_D jm_Ab_init 6 (.putfield 7) 3 9 := ⟨by decide +kernel, rfl⟩
theorem d_Ab_init_9 : j_D jm_Ab_init 9 .return_ 1 10 := ⟨by decide +kernel, rfl⟩
theorem d_Ac_init_0 : j_D jm_Ac_init 0 (.aload_n 0) 1 1 := ⟨by decide +kernel, rfl⟩
theorem d_Ac_init_1 : j_D jm_Ac_init 1 (.invokespecial 1) 3 4 := ⟨by decide +kernel, rfl⟩
theorem d_Ac_init_4 : j_D jm_Ac_init 4 .return_ 1 5 := ⟨by decide +kernel, rfl⟩
theorem lc_Ab_init : j_Lc jm_Ab_init 0 := ⟨by decide +kernel, by decide +kernel, by decide, by decide +kernel, by decide⟩
theorem c_AL_1 : j_Li "java/util/ArrayList" 1 jm_Ab_init 0 := ⟨Or.inl (by decide +kernel), by decide +kernel, rfl, rfl, rfl, lc_Ab_init⟩
theorem f_AL_9 : j_F "java/util/ArrayList" 9 9 1 1 true := ⟨rfl, _, "java/util/ArrayList", rfl, by decide, rfl, Or.inl (by decide +kernel), Or.inl rfl⟩
theorem f_AL_63 : j_F "java/util/ArrayList" 63 9 0 0 false := ⟨rfl, _, "java/util/ArrayList", rfl, by decide, rfl, Or.inl (by decide +kernel), Or.inr (by decide +kernel)⟩
theorem f_AL_48 : j_F "java/util/ArrayList" 48 9 2 2 false := ⟨rfl, _, "java/util/ArrayList", rfl, by decide, rfl, Or.inl (by decide +kernel), Or.inl rfl⟩
theorem lc_AL_add3 : j_Lc jm_AL_add3 3 := ⟨by decide +kernel, by decide +kernel, by decide, by decide +kernel, by decide⟩
theorem c_AL_131 : j_Lv "java/util/ArrayList" 131 9 jm_AL_add3 3 := ⟨by decide +kernel, by decide +kernel, ⟨_, rfl, by decide +kernel⟩, lc_AL_add3⟩
theorem lc_AL_grow0 : j_Lc jm_AL_grow0 0 := ⟨by decide +kernel, by decide +kernel, by decide, by decide +kernel, by decide⟩
theorem c_AL_129 : j_Lv "java/util/ArrayList" 129 9 jm_AL_grow0 0 := ⟨by decide +kernel, by decide +kernel, ⟨_, rfl, by decide +kernel⟩, lc_AL_grow0⟩
theorem lc_Ob_checkIndex : j_Lc jm_Ob_checkIndex 2 := ⟨by decide +kernel, by decide +kernel, by decide, by decide +kernel, by decide⟩
theorem c_AL_118 : j_Ls "java/util/ArrayList" 118 jm_Ob_checkIndex 2 := ⟨Or.inl (by decide +kernel), by decide +kernel, rfl, lc_Ob_checkIndex⟩
theorem lc_AL_elementData : j_Lc jm_AL_elementData 1 := ⟨by decide +kernel, by decide +kernel, by decide, by decide +kernel, by decide⟩
theorem c_AL_123 : j_Lv "java/util/ArrayList" 123 9 jm_AL_elementData 1 := ⟨by decide +kernel, by decide +kernel, ⟨_, rfl, by decide +kernel⟩, lc_AL_elementData⟩
theorem lc_AL_grow1 : j_Lc jm_AL_grow1 1 := ⟨by decide +kernel, by decide +kernel, by decide, by decide +kernel, by decide⟩
theorem c_AL_69 : j_Lv "java/util/ArrayList" 69 9 jm_AL_grow1 1 := ⟨by decide +kernel, by decide +kernel, ⟨_, rfl, by decide +kernel⟩, lc_AL_grow1⟩
theorem lc_Su_newLength : j_Lc jm_Su_newLength 3 := ⟨by decide +kernel, by decide +kernel, by decide, by decide +kernel, by decide⟩
theorem c_AL_73 : j_Ls "java/util/ArrayList" 73 jm_Su_newLength 3 := ⟨Or.inl (by decide +kernel), by decide +kernel, rfl, lc_Su_newLength⟩
theorem lc_As_copyOf2 : j_Lc jm_As_copyOf2 2 := ⟨by decide +kernel, by decide +kernel, by decide, by decide +kernel, by decide⟩
theorem c_AL_66 : j_Ls "java/util/ArrayList" 66 jm_As_copyOf2 2 := ⟨Or.inl (by decide +kernel), by decide +kernel, rfl, lc_As_copyOf2⟩
theorem c_AL_79 : j_Ls "java/util/ArrayList" 79 jm_Ma_max 2 := ⟨Or.inl (by decide +kernel), by decide +kernel, rfl, lc_Ma_max⟩
theorem lc_Pc_checkIndex : j_Lc jm_Pc_checkIndex 3 := ⟨by decide +kernel, by decide +kernel, by decide, by decide +kernel, by decide⟩
theorem c_Ob_105 : j_Ls "java/util/Objects" 105 jm_Pc_checkIndex 3 := ⟨Or.inl (by decide +kernel), by decide +kernel, rfl, lc_Pc_checkIndex⟩
theorem c_Su_194 : j_Ls "jdk/internal/util/ArraysSupport" 194 jm_Ma_max 2 := ⟨Or.inl (by decide +kernel), by decide +kernel, rfl, lc_Ma_max⟩
theorem lc_Su_hugeLength : j_Lc jm_Su_hugeLength 2 := ⟨by decide +kernel, by decide +kernel, by decide, by decide +kernel, by decide⟩
theorem c_Su_201 : j_Ls "jdk/internal/util/ArraysSupport" 201 jm_Su_hugeLength 2 := ⟨Or.inl (by decide +kernel), by decide +kernel, rfl, lc_Su_hugeLength⟩
theorem lc_As_copyOf3 : j_Lc jm_As_copyOf3 3 := ⟨by decide +kernel, by decide +kernel, by decide, by decide +kernel, by decide⟩
theorem c_As_300 : j_Ls "java/util/Arrays" 300 jm_As_copyOf3 3 := ⟨Or.inl (by decide +kernel), by decide +kernel, rfl, lc_As_copyOf3⟩
theorem c_As_304 : j_Ls "java/util/Arrays" 304 jm_Ma_min 2 := ⟨Or.inl (by decide +kernel), by decide +kernel, rfl, lc_Ma_min⟩
theorem lc_Ac_init : j_Lc jm_Ac_init 0 := ⟨by decide +kernel, by decide +kernel, by decide, by decide +kernel, by decide⟩
theorem c_Ab_1 : j_Li "java/util/AbstractList" 1 jm_Ac_init 0 := ⟨Or.inl (by decide +kernel), by decide +kernel, rfl, rfl, rfl, lc_Ac_init⟩
theorem f_Ab_7 : j_F "java/util/AbstractList" 7 9 0 0 false := ⟨rfl, _, "java/util/AbstractList", rfl, by decide, rfl, Or.inl (by decide +kernel), Or.inl rfl⟩
theorem s_AL_init_0 {G : j_G} {d B S N : Nat} {K : Nat → Option (Nat × Nat)} {M : Nat → Int → Int} {g : Nat → Int → Option Nat} {Q : j_O → j_S → Prop} {a0 : Nat} {x1 : Int} {B' S' : Nat} {Q' : j_O → j_S → Prop} (hC : j_Ct G jm_Ab_init d B' S' [jr_ a0] (N, K, M, g) Q') (hR : ∀ x σ', ¬ Q' (.inr x) σ') (k1 : ∀ v σ', Q' (.inl v) σ' → j_J G jm_AL_init (d + 1) B S 4 [jr_ a0, ji_ x1] (v.toList ++ []) σ' Q) : j_J G jm_AL_init (d + 1) (B' + B) (S' + S) 0 [jr_ a0, ji_ x1] [] (N, K, M, g) Q :=
  j_aload_n d_AL_init_0 rfl <| j_callI (as := []) (rest := []) d_AL_init_1 c_AL_1 rfl (Nat.le_of_ble_eq_true rfl) hC hR k1
theorem s_AL_init_4 {G : j_G} {d B S N : Nat} {K : Nat → Option (Nat × Nat)} {M : Nat → Int → Int} {g : Nat → Int → Option Nat} {Q : j_O → j_S → Prop} {a0 : Nat} {x1 : Int} (r1 : -2147483648 ≤ x1 ∧ x1 ≤ 2147483647 := by omega) (k1 : x1 ≤ 0 → j_J G jm_AL_init d B S 19 [jr_ a0, ji_ x1] [] (N, K, M, g) Q) (k2 : 0 < x1 → j_J G jm_AL_init d B S 8 [jr_ a0, ji_ x1] [] (N, K, M, g) Q) : j_J G jm_AL_init d B S 4 [jr_ a0, ji_ x1] [] (N, K, M, g) Q :=
  j_iload_n d_AL_init_4 rfl <| j_if_le d_AL_init_5 r1 k1 k2
-- AL_init 8: anewarray: by hand
theorem s_AL_init_19 {G : j_G} {d B S N : Nat} {K : Nat → Option (Nat × Nat)} {M : Nat → Int → Int} {g : Nat → Int → Option Nat} {Q : j_O → j_S → Prop} {a0 : Nat} {x1 : Int} (r1 : -2147483648 ≤ x1 ∧ x1 ≤ 2147483647 := by omega) (k1 : x1 ≠ 0 → j_J G jm_AL_init d B S 33 [jr_ a0, ji_ x1] [] (N, K, M, g) Q) (k2 : x1 = 0 → j_J G jm_AL_init d B S 23 [jr_ a0, ji_ x1] [] (N, K, M, g) Q) : j_J G jm_AL_init d B S 19 [jr_ a0, ji_ x1] [] (N, K, M, g) Q :=
  j_iload_n d_AL_init_19 rfl <| j_if_ne d_AL_init_20 r1 k1 k2
-- AL_init 23: getstatic: by hand
-- AL_init 33: not printed (('java/util/ArrayList', 18))
theorem s_AL_init_60 {G : j_G} {d B S N : Nat} {K : Nat → Option (Nat × Nat)} {M : Nat → Int → Int} {g : Nat → Int → Option Nat} {Q : j_O → j_S → Prop} {a0 : Nat} {x1 : Int}  (k1 : Q (.inl none) (N, K, M, g)) : j_J G jm_AL_init d B S 60 [jr_ a0, ji_ x1] [] (N, K, M, g) Q :=
  j_vreturn d_AL_init_60 rfl k1
theorem s_AL_clear_0 {G : j_G} {d B S N : Nat} {K : Nat → Option (Nat × Nat)} {M : Nat → Int → Int} {g : Nat → Int → Option Nat} {Q : j_O → j_S → Prop} {a0 y1 : Nat} {u1 u2 u3 : j_V} (hk1 : K a0 = some (0, 9)) (hg2 : g a0 1 = some y1) (k1 : j_J G jm_AL_clear d B S 27 [jr_ a0, jr_ y1, ji_ ((j_up M a0 0 ((M a0 0) + 1)) a0 2), ji_ 0] [] (N, K, (j_up (j_up M a0 0 ((M a0 0) + 1)) a0 2 0), g) Q) : j_J G jm_AL_clear d B S 0 [jr_ a0, u1, u2, u3] [] (N, K, M, g) Q :=
  j_aload_n d_AL_clear_0 rfl <| j_dupR d_AL_clear_1 <| j_getI d_AL_clear_2 f_AL_63 hk1 <| j_iconst d_AL_clear_5 <| j_iadd d_AL_clear_6 <| j_putI d_AL_clear_7 f_AL_63 (⟨_, rfl, Or.inl rfl⟩) rfl hk1 <| j_aload_n d_AL_clear_10 rfl <| j_getR d_AL_clear_11 f_AL_9 hk1 hg2 <| j_astore_n d_AL_clear_14 rfl rfl <| j_aload_n d_AL_clear_15 rfl <| j_getI d_AL_clear_16 f_AL_48 hk1 <| j_istore_n d_AL_clear_19 rfl rfl <| j_aload_n d_AL_clear_20 rfl <| j_iconst d_AL_clear_21 <| j_dup_x1IR d_AL_clear_22 <| j_putI d_AL_clear_23 f_AL_48 (⟨_, rfl, Or.inl rfl⟩) rfl hk1 <| j_istore_n d_AL_clear_26 rfl rfl <| k1
theorem s_AL_clear_27 {G : j_G} {d B S N : Nat} {K : Nat → Option (Nat × Nat)} {M : Nat → Int → Int} {g : Nat → Int → Option Nat} {Q : j_O → j_S → Prop} {a0 a1 : Nat} {x2 x3 : Int} (r1 : -2147483648 ≤ x3 ∧ x3 ≤ 2147483647 := by omega) (r2 : -2147483648 ≤ x2 ∧ x2 ≤ 2147483647 := by omega) (k1 : x2 ≤ x3 → Q (.inl none) (N, K, M, g)) (k2 : x3 < x2 → j_J G jm_AL_clear d B S 32 [jr_ a0, jr_ a1, ji_ x2, ji_ x3] [] (N, K, M, g) Q) : j_J G jm_AL_clear d B S 27 [jr_ a0, jr_ a1, ji_ x2, ji_ x3] [] (N, K, M, g) Q :=
  j_iload_n d_AL_clear_27 rfl <| j_iload_n d_AL_clear_28 rfl <| j_icmp_ge d_AL_clear_29 r1 r2 (fun h => j_vreturn d_AL_clear_42 rfl <| k1 h) k2
theorem s_AL_clear_32 {G : j_G} {d B S N : Nat} {K : Nat → Option (Nat × Nat)} {M : Nat → Int → Int} {g : Nat → Int → Option Nat} {Q : j_O → j_S → Prop} {a0 a1 n1 tg1 : Nat} {x2 x3 : Int} (hk1 : K a1 = some (tg1 + 3, n1)) (r1 : 0 ≤ x3 := by omega) (r1' : x3 < (n1 : Int) := by omega) (k1 : j_J G jm_AL_clear d B S 27 [jr_ a0, jr_ a1, ji_ x2, ji_ (x3 + 1)] [] (N, K, M, (j_up g a1 x3 none)) Q) : j_J G jm_AL_clear d B S 32 [jr_ a0, jr_ a1, ji_ x2, ji_ x3] [] (N, K, M, g) Q :=
  j_aload_n d_AL_clear_32 rfl <| j_iload_n d_AL_clear_33 rfl <| j_null d_AL_clear_34 <| j_aastN d_AL_clear_35 hk1 r1 r1' <| j_iinc d_AL_clear_36 rfl rfl rfl <| j_goto d_AL_clear_39 k1
theorem s_AL_clear_42 {G : j_G} {d B S N : Nat} {K : Nat → Option (Nat × Nat)} {M : Nat → Int → Int} {g : Nat → Int → Option Nat} {Q : j_O → j_S → Prop} {a0 a1 : Nat} {x2 x3 : Int}  (k1 : Q (.inl none) (N, K, M, g)) : j_J G jm_AL_clear d B S 42 [jr_ a0, jr_ a1, ji_ x2, ji_ x3] [] (N, K, M, g) Q :=
  j_vreturn d_AL_clear_42 rfl k1
theorem s_AL_add1_0 {G : j_G} {d B S N : Nat} {K : Nat → Option (Nat × Nat)} {M : Nat → Int → Int} {g : Nat → Int → Option Nat} {Q : j_O → j_S → Prop} {a0 a1 y1 : Nat} {B' S' : Nat} {Q' : j_O → j_S → Prop} (hk1 : K a0 = some (0, 9)) (hg2 : g a0 1 = some y1) (hC : j_Ct G jm_AL_add3 d B' S' [jr_ a0, jr_ a1, jr_ y1, ji_ ((j_up M a0 0 ((M a0 0) + 1)) a0 2)] (N, K, (j_up M a0 0 ((M a0 0) + 1)), g) Q') (hR : ∀ x σ', ¬ Q' (.inr x) σ') (k1 : ∀ v σ', Q' (.inl v) σ' → j_J G jm_AL_add1 (d + 1) B S 23 [jr_ a0, jr_ a1] (v.toList ++ []) σ' Q) : j_J G jm_AL_add1 (d + 1) (B' + B) (S' + S) 0 [jr_ a0, jr_ a1] [] (N, K, M, g) Q :=
  j_aload_n d_AL_add1_0 rfl <| j_dupR d_AL_add1_1 <| j_getI d_AL_add1_2 f_AL_63 hk1 <| j_iconst d_AL_add1_5 <| j_iadd d_AL_add1_6 <| j_putI d_AL_add1_7 f_AL_63 (⟨_, rfl, Or.inl rfl⟩) rfl hk1 <| j_aload_n d_AL_add1_10 rfl <| j_aload_n d_AL_add1_11 rfl <| j_aload_n d_AL_add1_12 rfl <| j_getR d_AL_add1_13 f_AL_9 hk1 hg2 <| j_aload_n d_AL_add1_16 rfl <| j_getI d_AL_add1_17 f_AL_48 hk1 <| j_callV (as := [jr_ a1, jr_ y1, ji_ ((j_up M a0 0 ((M a0 0) + 1)) a0 2)]) (rest := []) d_AL_add1_20 c_AL_131 hk1 rfl (Nat.le_of_ble_eq_true rfl) hC hR k1
theorem s_AL_add1_23 {G : j_G} {d B S N : Nat} {K : Nat → Option (Nat × Nat)} {M : Nat → Int → Int} {g : Nat → Int → Option Nat} {Q : j_O → j_S → Prop} {a0 a1 : Nat}  (k1 : Q (.inl (some (ji_ 1))) (N, K, M, g)) : j_J G jm_AL_add1 d B S 23 [jr_ a0, jr_ a1] [] (N, K, M, g) Q :=
  j_iconst d_AL_add1_23 <| j_zreturn' d_AL_add1_24 rfl (Or.inr rfl) k1
theorem s_AL_add3_0 {G : j_G} {d B S N : Nat} {K : Nat → Option (Nat × Nat)} {M : Nat → Int → Int} {g : Nat → Int → Option Nat} {Q : j_O → j_S → Prop} {a0 a1 a2 n1 tg1 : Nat} {x3 : Int} (hk1 : K a2 = some (tg1 + 1, n1)) (r1 : -2147483648 ≤ x3 ∧ x3 ≤ 2147483647 := by omega) (r2 : -2147483648 ≤ (n1 : Int) ∧ (n1 : Int) ≤ 2147483647 := by omega) (k1 : x3 ≠ (n1 : Int) → j_J G jm_AL_add3 d B S 11 [jr_ a0, jr_ a1, jr_ a2, ji_ x3] [] (N, K, M, g) Q) (k2 : x3 = (n1 : Int) → j_J G jm_AL_add3 d B S 6 [jr_ a0, jr_ a1, jr_ a2, ji_ x3] [] (N, K, M, g) Q) : j_J G jm_AL_add3 d B S 0 [jr_ a0, jr_ a1, jr_ a2, ji_ x3] [] (N, K, M, g) Q :=
  j_iload_n d_AL_add3_0 rfl <| j_aload_n d_AL_add3_1 rfl <| j_alen d_AL_add3_2 hk1 <| j_icmp_ne d_AL_add3_3 r1 r2 k1 k2
theorem s_AL_add3_6 {G : j_G} {d B S N : Nat} {K : Nat → Option (Nat × Nat)} {M : Nat → Int → Int} {g : Nat → Int → Option Nat} {Q : j_O → j_S → Prop} {a0 a1 a2 : Nat} {x3 : Int} {B' S' : Nat} {Q' : j_O → j_S → Prop} (hk1 : K a0 = some (0, 9)) (hC : j_Ct G jm_AL_grow0 d B' S' [jr_ a0] (N, K, M, g) Q') (hR : ∀ x σ', ¬ Q' (.inr x) σ') (k1 : ∀ v σ', Q' (.inl v) σ' → j_J G jm_AL_add3 (d + 1) B S 10 [jr_ a0, jr_ a1, jr_ a2, ji_ x3] (v.toList ++ []) σ' Q) : j_J G jm_AL_add3 (d + 1) (B' + B) (S' + S) 6 [jr_ a0, jr_ a1, jr_ a2, ji_ x3] [] (N, K, M, g) Q :=
  j_aload_n d_AL_add3_6 rfl <| j_callV (as := []) (rest := []) d_AL_add3_7 c_AL_129 hk1 rfl (Nat.le_of_ble_eq_true rfl) hC hR k1
theorem s_AL_add3_10 {G : j_G} {d B S N : Nat} {K : Nat → Option (Nat × Nat)} {M : Nat → Int → Int} {g : Nat → Int → Option Nat} {Q : j_O → j_S → Prop} {a0 a1 a2 b0 : Nat} {x3 : Int}  (k1 : j_J G jm_AL_add3 d B S 11 [jr_ a0, jr_ a1, jr_ b0, ji_ x3] [] (N, K, M, g) Q) : j_J G jm_AL_add3 d B S 10 [jr_ a0, jr_ a1, jr_ a2, ji_ x3] [jr_ b0] (N, K, M, g) Q :=
  j_astore_n d_AL_add3_10 rfl rfl <| k1
theorem s_AL_add3_11 {G : j_G} {d B S N : Nat} {K : Nat → Option (Nat × Nat)} {M : Nat → Int → Int} {g : Nat → Int → Option Nat} {Q : j_O → j_S → Prop} {a0 a1 a2 n1 tg1 ci2 : Nat} {x3 : Int} (hk1 : K a2 = some (tg1 + 3, n1)) (r1 : 0 ≤ x3 := by omega) (r1' : x3 < (n1 : Int) := by omega) (hk3 : K a1 = some (0, ci2)) (hc4 : j_cast ci2 (tg1 + 3)) (hk2 : K a0 = some (0, 9)) (k1 : Q (.inl none) (N, K, (j_up M a0 2 (x3 + 1)), (j_up g a2 x3 (some a1)))) : j_J G jm_AL_add3 d B S 11 [jr_ a0, jr_ a1, jr_ a2, ji_ x3] [] (N, K, M, g) Q :=
  j_aload_n d_AL_add3_11 rfl <| j_iload_n d_AL_add3_12 rfl <| j_aload_n d_AL_add3_13 rfl <| j_aast d_AL_add3_14 hk1 r1 r1' hk3 hc4 <| j_aload_n d_AL_add3_15 rfl <| j_iload_n d_AL_add3_16 rfl <| j_iconst d_AL_add3_17 <| j_iadd d_AL_add3_18 <| j_putI d_AL_add3_19 f_AL_48 (⟨_, rfl, Or.inl rfl⟩) rfl hk2 <| j_vreturn d_AL_add3_22 rfl k1
theorem s_AL_get_0 {G : j_G} {d B S N : Nat} {K : Nat → Option (Nat × Nat)} {M : Nat → Int → Int} {g : Nat → Int → Option Nat} {Q : j_O → j_S → Prop} {a0 : Nat} {x1 : Int} {q : Int → (Nat → Int → Int) → Prop} (hk1 : K a0 = some (0, 9)) (hC : j_Ct G jm_Ob_checkIndex d 0 0 [ji_ x1, ji_ (M a0 2)] (N, K, M, g) (j_pI N K g q)) (k1 : ∀ z M', q z M' → j_J G jm_AL_get (d + 1) B S 8 [jr_ a0, ji_ x1] [ji_ z] (N, K, M', g) Q) : j_J G jm_AL_get (d + 1) B S 0 [jr_ a0, ji_ x1] [] (N, K, M, g) Q :=
  j_iload_n d_AL_get_0 rfl <| j_aload_n d_AL_get_1 rfl <| j_getI d_AL_get_2 f_AL_48 hk1 <| j_aSI (as := [ji_ x1, ji_ (M a0 2)]) (rest := []) d_AL_get_5 c_AL_118 rfl (Nat.le_of_ble_eq_true rfl) hC k1
theorem s_AL_get_8 {G : j_G} {d B S N : Nat} {K : Nat → Option (Nat × Nat)} {M : Nat → Int → Int} {g : Nat → Int → Option Nat} {Q : j_O → j_S → Prop} {a0 : Nat} {x1 t0 : Int} {q : Nat → (Nat → Int → Int) → Prop} (hk1 : K a0 = some (0, 9)) (hC : j_Ct G jm_AL_elementData d 0 0 [jr_ a0, ji_ x1] (N, K, M, g) (j_pR N K g q)) (k1 : ∀ r M', q r M' → j_J G jm_AL_get (d + 1) B S 14 [jr_ a0, ji_ x1] [jr_ r] (N, K, M', g) Q) : j_J G jm_AL_get (d + 1) B S 8 [jr_ a0, ji_ x1] [ji_ t0] (N, K, M, g) Q :=
  j_popI d_AL_get_8 <| j_aload_n d_AL_get_9 rfl <| j_iload_n d_AL_get_10 rfl <| j_aVR (as := [ji_ x1]) (rest := []) d_AL_get_11 c_AL_123 hk1 rfl (Nat.le_of_ble_eq_true rfl) hC k1
theorem s_AL_get_14 {G : j_G} {d B S N : Nat} {K : Nat → Option (Nat × Nat)} {M : Nat → Int → Int} {g : Nat → Int → Option Nat} {Q : j_O → j_S → Prop} {a0 b0 : Nat} {x1 : Int}  (k1 : Q (.inl (some (jr_ b0))) (N, K, M, g)) : j_J G jm_AL_get d B S 14 [jr_ a0, ji_ x1] [jr_ b0] (N, K, M, g) Q :=
  j_areturn d_AL_get_14 rfl (Or.inl ⟨_, rfl⟩) k1
theorem s_AL_elementData_0 {G : j_G} {d B S N : Nat} {K : Nat → Option (Nat × Nat)} {M : Nat → Int → Int} {g : Nat → Int → Option Nat} {Q : j_O → j_S → Prop} {a0 y1 n2 tg2 y4 : Nat} {x1 : Int} (hk1 : K a0 = some (0, 9)) (hg2 : g a0 1 = some y1) (hk2 : K y1 = some (tg2 + 3, n2)) (r3 : 0 ≤ x1 := by omega) (r3' : x1 < (n2 : Int) := by omega) (hg5 : g y1 x1 = some y4) (k1 : Q (.inl (some (jr_ y4))) (N, K, M, g)) : j_J G jm_AL_elementData d B S 0 [jr_ a0, ji_ x1] [] (N, K, M, g) Q :=
  j_aload_n d_AL_elementData_0 rfl <| j_getR d_AL_elementData_1 f_AL_9 hk1 hg2 <| j_iload_n d_AL_elementData_4 rfl <| j_aald d_AL_elementData_5 hk2 r3 r3' hg5 <| j_areturn d_AL_elementData_6 rfl (Or.inl ⟨_, rfl⟩) k1
theorem s_AL_size_0 {G : j_G} {d B S N : Nat} {K : Nat → Option (Nat × Nat)} {M : Nat → Int → Int} {g : Nat → Int → Option Nat} {Q : j_O → j_S → Prop} {a0 : Nat} (hk1 : K a0 = some (0, 9)) (k1 : Q (.inl (some (ji_ (M a0 2)))) (N, K, M, g)) : j_J G jm_AL_size d B S 0 [jr_ a0] [] (N, K, M, g) Q :=
  j_aload_n d_AL_size_0 rfl <| j_getI d_AL_size_1 f_AL_48 hk1 <| j_ireturn d_AL_size_4 rfl k1
theorem s_AL_grow0_0 {G : j_G} {d B S N : Nat} {K : Nat → Option (Nat × Nat)} {M : Nat → Int → Int} {g : Nat → Int → Option Nat} {Q : j_O → j_S → Prop} {a0 : Nat} {B' S' : Nat} {Q' : j_O → j_S → Prop} (hk1 : K a0 = some (0, 9)) (hC : j_Ct G jm_AL_grow1 d B' S' [jr_ a0, ji_ ((M a0 2) + 1)] (N, K, M, g) Q') (hR : ∀ x σ', ¬ Q' (.inr x) σ') (k1 : ∀ v σ', Q' (.inl v) σ' → j_J G jm_AL_grow0 (d + 1) B S 10 [jr_ a0] (v.toList ++ []) σ' Q) : j_J G jm_AL_grow0 (d + 1) (B' + B) (S' + S) 0 [jr_ a0] [] (N, K, M, g) Q :=
  j_aload_n d_AL_grow0_0 rfl <| j_aload_n d_AL_grow0_1 rfl <| j_getI d_AL_grow0_2 f_AL_48 hk1 <| j_iconst d_AL_grow0_5 <| j_iadd d_AL_grow0_6 <| j_callV (as := [ji_ ((M a0 2) + 1)]) (rest := []) d_AL_grow0_7 c_AL_69 hk1 rfl (Nat.le_of_ble_eq_true rfl) hC hR k1
theorem s_AL_grow0_10 {G : j_G} {d B S N : Nat} {K : Nat → Option (Nat × Nat)} {M : Nat → Int → Int} {g : Nat → Int → Option Nat} {Q : j_O → j_S → Prop} {a0 b0 : Nat}  (k1 : Q (.inl (some (jr_ b0))) (N, K, M, g)) : j_J G jm_AL_grow0 d B S 10 [jr_ a0] [jr_ b0] (N, K, M, g) Q :=
  j_areturn d_AL_grow0_10 rfl (Or.inr ⟨_, rfl⟩) k1
theorem s_AL_grow1_0 {G : j_G} {d B S N : Nat} {K : Nat → Option (Nat × Nat)} {M : Nat → Int → Int} {g : Nat → Int → Option Nat} {Q : j_O → j_S → Prop} {a0 y1 n2 tg2 : Nat} {x1 : Int} {u2 u3 : j_V} (hk1 : K a0 = some (0, 9)) (hg2 : g a0 1 = some y1) (hk2 : K y1 = some (tg2 + 1, n2)) (r3 : -2147483648 ≤ (n2 : Int) ∧ (n2 : Int) ≤ 2147483647 := by omega) (k1 : 0 < (n2 : Int) → j_J G jm_AL_grow1 d B S 20 [jr_ a0, ji_ x1, ji_ (n2 : Int), u3] [] (N, K, M, g) Q) (k2 : (n2 : Int) ≤ 0 → j_J G jm_AL_grow1 d B S 10 [jr_ a0, ji_ x1, ji_ (n2 : Int), u3] [] (N, K, M, g) Q) : j_J G jm_AL_grow1 d B S 0 [jr_ a0, ji_ x1, u2, u3] [] (N, K, M, g) Q :=
  j_aload_n d_AL_grow1_0 rfl <| j_getR d_AL_grow1_1 f_AL_9 hk1 hg2 <| j_alen d_AL_grow1_4 hk2 <| j_istore_n d_AL_grow1_5 rfl rfl <| j_iload_n d_AL_grow1_6 rfl <| j_if_gt d_AL_grow1_7 r3 k1 k2
-- AL_grow1 10: getstatic: by hand
theorem s_AL_grow1_20 {G : j_G} {d B S N : Nat} {K : Nat → Option (Nat × Nat)} {M : Nat → Int → Int} {g : Nat → Int → Option Nat} {Q : j_O → j_S → Prop} {a0 : Nat} {x1 x2 : Int} {u3 : j_V} {q : Int → (Nat → Int → Int) → Prop} (r1 : 0 ≤ x2 ∧ x2 ≤ 2147483647 := by omega) (hC : j_Ct G jm_Su_newLength d 0 0 [ji_ x2, ji_ (x1 - x2), ji_ (x2 / 2)] (N, K, M, g) (j_pI N K g q)) (k1 : ∀ z M', q z M' → j_J G jm_AL_grow1 (d + 1) B S 30 [jr_ a0, ji_ x1, ji_ x2, u3] [ji_ z] (N, K, M', g) Q) : j_J G jm_AL_grow1 (d + 1) B S 20 [jr_ a0, ji_ x1, ji_ x2, u3] [] (N, K, M, g) Q :=
  j_iload_n d_AL_grow1_20 rfl <| j_iload_n d_AL_grow1_21 rfl <| j_iload_n d_AL_grow1_22 rfl <| j_isub d_AL_grow1_23 <| j_iload_n d_AL_grow1_24 rfl <| j_iconst d_AL_grow1_25 <| j_ishr1 d_AL_grow1_26 r1 <| j_aSI (as := [ji_ x2, ji_ (x1 - x2), ji_ (x2 / 2)]) (rest := []) d_AL_grow1_27 c_AL_73 rfl (Nat.le_of_ble_eq_true rfl) hC k1
theorem s_AL_grow1_30 {G : j_G} {d B S N : Nat} {K : Nat → Option (Nat × Nat)} {M : Nat → Int → Int} {g : Nat → Int → Option Nat} {Q : j_O → j_S → Prop} {a0 y1 : Nat} {x1 x2 t0 : Int} {u3 : j_V} {B' S' : Nat} {Q' : j_O → j_S → Prop} (hk1 : K a0 = some (0, 9)) (hg2 : g a0 1 = some y1) (hC : j_Ct G jm_As_copyOf2 d B' S' [jr_ y1, ji_ t0] (N, K, M, g) Q') (hR : ∀ x σ', ¬ Q' (.inr x) σ') (k1 : ∀ v σ', Q' (.inl v) σ' → j_J G jm_AL_grow1 (d + 1) B S 40 [jr_ a0, ji_ x1, ji_ x2, ji_ t0] (v.toList ++ [jr_ a0]) σ' Q) : j_J G jm_AL_grow1 (d + 1) (B' + B) (S' + S) 30 [jr_ a0, ji_ x1, ji_ x2, u3] [ji_ t0] (N, K, M, g) Q :=
  j_istore_n d_AL_grow1_30 rfl rfl <| j_aload_n d_AL_grow1_31 rfl <| j_aload_n d_AL_grow1_32 rfl <| j_getR d_AL_grow1_33 f_AL_9 hk1 hg2 <| j_iload_n d_AL_grow1_36 rfl <| j_callS (as := [jr_ y1, ji_ t0]) (rest := [jr_ a0]) d_AL_grow1_37 c_AL_66 rfl (Nat.le_of_ble_eq_true rfl) hC hR k1
theorem s_AL_grow1_40 {G : j_G} {d B S N : Nat} {K : Nat → Option (Nat × Nat)} {M : Nat → Int → Int} {g : Nat → Int → Option Nat} {Q : j_O → j_S → Prop} {a0 b0 b1 : Nat} {x1 x2 x3 : Int} (hk1 : K b0 = some (0, 9)) (k1 : Q (.inl (some (jr_ b1))) (N, K, M, (j_up g b0 1 (some b1)))) : j_J G jm_AL_grow1 d B S 40 [jr_ a0, ji_ x1, ji_ x2, ji_ x3] [jr_ b1, jr_ b0] (N, K, M, g) Q :=
  j_dup_x1RR d_AL_grow1_40 <| j_putR d_AL_grow1_41 f_AL_9 (⟨_, rfl, Or.inl rfl⟩) (Or.inr ⟨_, rfl⟩) hk1 <| j_areturn d_AL_grow1_44 rfl (Or.inr ⟨_, rfl⟩) k1
theorem s_AL_grow1_45 {G : j_G} {d B S N : Nat} {K : Nat → Option (Nat × Nat)} {M : Nat → Int → Int} {g : Nat → Int → Option Nat} {Q : j_O → j_S → Prop} {a0 : Nat} {x1 x2 : Int} {u3 : j_V} {q : Int → (Nat → Int → Int) → Prop} (hC : j_Ct G jm_Ma_max d 0 0 [ji_ 10, ji_ x1] (N, K, M, g) (j_pI N K g q)) (k1 : ∀ z M', q z M' → j_J G jm_AL_grow1 (d + 1) B S 52 [jr_ a0, ji_ x1, ji_ x2, u3] [ji_ z, jr_ a0] (N, K, M', g) Q) : j_J G jm_AL_grow1 (d + 1) B S 45 [jr_ a0, ji_ x1, ji_ x2, u3] [] (N, K, M, g) Q :=
  j_aload_n d_AL_grow1_45 rfl <| j_bipush d_AL_grow1_46 (by decide) <| j_iload_n d_AL_grow1_48 rfl <| j_aSI (as := [ji_ 10, ji_ x1]) (rest := [jr_ a0]) d_AL_grow1_49 c_AL_79 rfl (Nat.le_of_ble_eq_true rfl) hC k1
-- AL_grow1 52: anewarray: by hand
theorem s_Ob_checkIndex_0 {G : j_G} {d B S N : Nat} {K : Nat → Option (Nat × Nat)} {M : Nat → Int → Int} {g : Nat → Int → Option Nat} {Q : j_O → j_S → Prop} {x0 x1 : Int} {q : Int → (Nat → Int → Int) → Prop} (hC : j_Ct G jm_Pc_checkIndex d 0 0 [ji_ x0, ji_ x1, jn_] (N, K, M, g) (j_pI N K g q)) (k1 : ∀ z M', q z M' → j_J G jm_Ob_checkIndex (d + 1) B S 6 [ji_ x0, ji_ x1] [ji_ z] (N, K, M', g) Q) : j_J G jm_Ob_checkIndex (d + 1) B S 0 [ji_ x0, ji_ x1] [] (N, K, M, g) Q :=
  j_iload_n d_Ob_checkIndex_0 rfl <| j_iload_n d_Ob_checkIndex_1 rfl <| j_null d_Ob_checkIndex_2 <| j_aSI (as := [ji_ x0, ji_ x1, jn_]) (rest := []) d_Ob_checkIndex_3 c_Ob_105 rfl (Nat.le_of_ble_eq_true rfl) hC k1
theorem s_Ob_checkIndex_6 {G : j_G} {d B S N : Nat} {K : Nat → Option (Nat × Nat)} {M : Nat → Int → Int} {g : Nat → Int → Option Nat} {Q : j_O → j_S → Prop} {x0 x1 t0 : Int}  (k1 : Q (.inl (some (ji_ t0))) (N, K, M, g)) : j_J G jm_Ob_checkIndex d B S 6 [ji_ x0, ji_ x1] [ji_ t0] (N, K, M, g) Q :=
  j_ireturn d_Ob_checkIndex_6 rfl k1
theorem s_Pc_checkIndex_0 {G : j_G} {d B S N : Nat} {K : Nat → Option (Nat × Nat)} {M : Nat → Int → Int} {g : Nat → Int → Option Nat} {Q : j_O → j_S → Prop} {a2 : Nat} {x0 x1 : Int} (r1 : -2147483648 ≤ x0 ∧ x0 ≤ 2147483647 := by omega) (k1 : x0 < 0 → j_J G jm_Pc_checkIndex d B S 9 [ji_ x0, ji_ x1, jr_ a2] [] (N, K, M, g) Q) (k2 : 0 ≤ x0 → j_J G jm_Pc_checkIndex d B S 4 [ji_ x0, ji_ x1, jr_ a2] [] (N, K, M, g) Q) : j_J G jm_Pc_checkIndex d B S 0 [ji_ x0, ji_ x1, jr_ a2] [] (N, K, M, g) Q :=
  j_iload_n d_Pc_checkIndex_0 rfl <| j_if_lt d_Pc_checkIndex_1 r1 k1 k2
theorem s_Pc_checkIndex_4 {G : j_G} {d B S N : Nat} {K : Nat → Option (Nat × Nat)} {M : Nat → Int → Int} {g : Nat → Int → Option Nat} {Q : j_O → j_S → Prop} {a2 : Nat} {x0 x1 : Int} (r1 : -2147483648 ≤ x0 ∧ x0 ≤ 2147483647 := by omega) (r2 : -2147483648 ≤ x1 ∧ x1 ≤ 2147483647 := by omega) (k1 : x0 < x1 → Q (.inl (some (ji_ x0))) (N, K, M, g)) (k2 : x1 ≤ x0 → j_J G jm_Pc_checkIndex d B S 9 [ji_ x0, ji_ x1, jr_ a2] [] (N, K, M, g) Q) : j_J G jm_Pc_checkIndex d B S 4 [ji_ x0, ji_ x1, jr_ a2] [] (N, K, M, g) Q :=
  j_iload_n d_Pc_checkIndex_4 rfl <| j_iload_n d_Pc_checkIndex_5 rfl <| j_icmp_lt d_Pc_checkIndex_6 r1 r2 (fun h => j_iload_n d_Pc_checkIndex_16 rfl <| j_ireturn d_Pc_checkIndex_17 rfl <| k1 h) k2
-- Pc_checkIndex 9: not printed (('jdk/internal/util/Preconditions', 95))
theorem s_Pc_checkIndex_16 {G : j_G} {d B S N : Nat} {K : Nat → Option (Nat × Nat)} {M : Nat → Int → Int} {g : Nat → Int → Option Nat} {Q : j_O → j_S → Prop} {a2 : Nat} {x0 x1 : Int}  (k1 : Q (.inl (some (ji_ x0))) (N, K, M, g)) : j_J G jm_Pc_checkIndex d B S 16 [ji_ x0, ji_ x1, jr_ a2] [] (N, K, M, g) Q :=
  j_iload_n d_Pc_checkIndex_16 rfl <| j_ireturn d_Pc_checkIndex_17 rfl k1
theorem s_Su_newLength_0 {G : j_G} {d B S N : Nat} {K : Nat → Option (Nat × Nat)} {M : Nat → Int → Int} {g : Nat → Int → Option Nat} {Q : j_O → j_S → Prop} {x0 x1 x2 : Int} {u3 : j_V} {q : Int → (Nat → Int → Int) → Prop} (hC : j_Ct G jm_Ma_max d 0 0 [ji_ x1, ji_ x2] (N, K, M, g) (j_pI N K g q)) (k1 : ∀ z M', q z M' → j_J G jm_Su_newLength (d + 1) B S 6 [ji_ x0, ji_ x1, ji_ x2, u3] [ji_ z, ji_ x0] (N, K, M', g) Q) : j_J G jm_Su_newLength (d + 1) B S 0 [ji_ x0, ji_ x1, ji_ x2, u3] [] (N, K, M, g) Q :=
  j_iload_n d_Su_newLength_0 rfl <| j_iload_n d_Su_newLength_1 rfl <| j_iload_n d_Su_newLength_2 rfl <| j_aSI (as := [ji_ x1, ji_ x2]) (rest := [ji_ x0]) d_Su_newLength_3 c_Su_194 rfl (Nat.le_of_ble_eq_true rfl) hC k1
theorem s_Su_newLength_6 {G : j_G} {d B S N : Nat} {K : Nat → Option (Nat × Nat)} {M : Nat → Int → Int} {g : Nat → Int → Option Nat} {Q : j_O → j_S → Prop} {x0 x1 x2 t0 t1 : Int} {u3 : j_V} (r1 : -2147483648 ≤ (t0 + t1) ∧ (t0 + t1) ≤ 2147483647 := by omega) (k1 : (t0 + t1) ≤ 0 → j_J G jm_Su_newLength d B S 21 [ji_ x0, ji_ x1, ji_ x2, ji_ (t0 + t1)] [] (N, K, M, g) Q) (k2 : 0 < (t0 + t1) → j_J G jm_Su_newLength d B S 13 [ji_ x0, ji_ x1, ji_ x2, ji_ (t0 + t1)] [] (N, K, M, g) Q) : j_J G jm_Su_newLength d B S 6 [ji_ x0, ji_ x1, ji_ x2, u3] [ji_ t1, ji_ t0] (N, K, M, g) Q :=
  j_iadd d_Su_newLength_6 <| j_istore_n d_Su_newLength_7 rfl rfl <| j_iconst d_Su_newLength_8 <| j_iload_n d_Su_newLength_9 rfl <| j_icmp_ge d_Su_newLength_10 (by decide) r1 k1 k2
theorem s_Su_newLength_13 {G : j_G} {d B S N : Nat} {K : Nat → Option (Nat × Nat)} {M : Nat → Int → Int} {g : Nat → Int → Option Nat} {Q : j_O → j_S → Prop} {x0 x1 x2 x3 : Int} (r1 : -2147483648 ≤ x3 ∧ x3 ≤ 2147483647 := by omega) (k1 : 2147483639 < x3 → j_J G jm_Su_newLength d B S 21 [ji_ x0, ji_ x1, ji_ x2, ji_ x3] [] (N, K, M, g) Q) (k2 : x3 ≤ 2147483639 → Q (.inl (some (ji_ x3))) (N, K, M, g)) : j_J G jm_Su_newLength d B S 13 [ji_ x0, ji_ x1, ji_ x2, ji_ x3] [] (N, K, M, g) Q :=
  j_iload_n d_Su_newLength_13 rfl <| j_ldc d_Su_newLength_14 (by decide +kernel) <| j_icmp_gt d_Su_newLength_16 r1 (by decide) k1 (fun h => j_iload_n d_Su_newLength_19 rfl <| j_ireturn d_Su_newLength_20 rfl <| k2 h)
theorem s_Su_newLength_19 {G : j_G} {d B S N : Nat} {K : Nat → Option (Nat × Nat)} {M : Nat → Int → Int} {g : Nat → Int → Option Nat} {Q : j_O → j_S → Prop} {x0 x1 x2 x3 : Int}  (k1 : Q (.inl (some (ji_ x3))) (N, K, M, g)) : j_J G jm_Su_newLength d B S 19 [ji_ x0, ji_ x1, ji_ x2, ji_ x3] [] (N, K, M, g) Q :=
  j_iload_n d_Su_newLength_19 rfl <| j_ireturn d_Su_newLength_20 rfl k1
theorem s_Su_newLength_21 {G : j_G} {d B S N : Nat} {K : Nat → Option (Nat × Nat)} {M : Nat → Int → Int} {g : Nat → Int → Option Nat} {Q : j_O → j_S → Prop} {x0 x1 x2 x3 : Int} {q : Int → (Nat → Int → Int) → Prop} (hC : j_Ct G jm_Su_hugeLength d 0 0 [ji_ x0, ji_ x1] (N, K, M, g) (j_pI N K g q)) (k1 : ∀ z M', q z M' → j_J G jm_Su_newLength (d + 1) B S 26 [ji_ x0, ji_ x1, ji_ x2, ji_ x3] [ji_ z] (N, K, M', g) Q) : j_J G jm_Su_newLength (d + 1) B S 21 [ji_ x0, ji_ x1, ji_ x2, ji_ x3] [] (N, K, M, g) Q :=
  j_iload_n d_Su_newLength_21 rfl <| j_iload_n d_Su_newLength_22 rfl <| j_aSI (as := [ji_ x0, ji_ x1]) (rest := []) d_Su_newLength_23 c_Su_201 rfl (Nat.le_of_ble_eq_true rfl) hC k1
theorem s_Su_newLength_26 {G : j_G} {d B S N : Nat} {K : Nat → Option (Nat × Nat)} {M : Nat → Int → Int} {g : Nat → Int → Option Nat} {Q : j_O → j_S → Prop} {x0 x1 x2 x3 t0 : Int}  (k1 : Q (.inl (some (ji_ t0))) (N, K, M, g)) : j_J G jm_Su_newLength d B S 26 [ji_ x0, ji_ x1, ji_ x2, ji_ x3] [ji_ t0] (N, K, M, g) Q :=
  j_ireturn d_Su_newLength_26 rfl k1
-- As_copyOf2 0: not printed ('java/lang/Object')
theorem s_As_copyOf2_6 {G : j_G} {d B S N : Nat} {K : Nat → Option (Nat × Nat)} {M : Nat → Int → Int} {g : Nat → Int → Option Nat} {Q : j_O → j_S → Prop} {a0 b0 b2 : Nat} {x1 t1 : Int} {B' S' : Nat} {Q' : j_O → j_S → Prop} (hC : j_Ct G jm_As_copyOf3 d B' S' [jr_ b0, ji_ t1, jr_ b2] (N, K, M, g) Q') (hR : ∀ x σ', ¬ Q' (.inr x) σ') (k1 : ∀ v σ', Q' (.inl v) σ' → j_J G jm_As_copyOf2 (d + 1) B S 9 [jr_ a0, ji_ x1] (v.toList ++ []) σ' Q) : j_J G jm_As_copyOf2 (d + 1) (B' + B) (S' + S) 6 [jr_ a0, ji_ x1] [jr_ b2, ji_ t1, jr_ b0] (N, K, M, g) Q :=
  j_callS (as := [jr_ b0, ji_ t1, jr_ b2]) (rest := []) d_As_copyOf2_6 c_As_300 rfl (Nat.le_of_ble_eq_true rfl) hC hR k1
theorem s_As_copyOf2_9 {G : j_G} {d B S N : Nat} {K : Nat → Option (Nat × Nat)} {M : Nat → Int → Int} {g : Nat → Int → Option Nat} {Q : j_O → j_S → Prop} {a0 b0 : Nat} {x1 : Int}  (k1 : Q (.inl (some (jr_ b0))) (N, K, M, g)) : j_J G jm_As_copyOf2 d B S 9 [jr_ a0, ji_ x1] [jr_ b0] (N, K, M, g) Q :=
  j_areturn d_As_copyOf2_9 rfl (Or.inr ⟨_, rfl⟩) k1
-- As_copyOf3 0: ldc: by hand
-- As_copyOf3 6: anewarray: by hand
-- As_copyOf3 13: not printed (('java/util/Arrays', 90))
theorem s_As_copyOf3_24 {G : j_G} {d B S N : Nat} {K : Nat → Option (Nat × Nat)} {M : Nat → Int → Int} {g : Nat → Int → Option Nat} {Q : j_O → j_S → Prop} {a0 a2 b0 n1 tg1 : Nat} {x1 : Int} {u3 : j_V} {q : Int → (Nat → Int → Int) → Prop} (hk1 : K a0 = some (tg1 + 1, n1)) (hC : j_Ct G jm_Ma_min d 0 0 [ji_ (n1 : Int), ji_ x1] (N, K, M, g) (j_pI N K g q)) (k1 : ∀ z M', q z M' → j_J G jm_As_copyOf3 (d + 1) B S 35 [jr_ a0, ji_ x1, jr_ a2, jr_ b0] [ji_ z, ji_ 0, jr_ b0, ji_ 0, jr_ a0] (N, K, M', g) Q) : j_J G jm_As_copyOf3 (d + 1) B S 24 [jr_ a0, ji_ x1, jr_ a2, u3] [jr_ b0] (N, K, M, g) Q :=
  j_astore_n d_As_copyOf3_24 rfl rfl <| j_aload_n d_As_copyOf3_25 rfl <| j_iconst d_As_copyOf3_26 <| j_aload_n d_As_copyOf3_27 rfl <| j_iconst d_As_copyOf3_28 <| j_aload_n d_As_copyOf3_29 rfl <| j_alen d_As_copyOf3_30 hk1 <| j_iload_n d_As_copyOf3_31 rfl <| j_aSI (as := [ji_ (n1 : Int), ji_ x1]) (rest := [ji_ 0, jr_ b0, ji_ 0, jr_ a0]) d_As_copyOf3_32 c_As_304 rfl (Nat.le_of_ble_eq_true rfl) hC k1
-- As_copyOf3 35: arraycopy: by hand
theorem s_As_copyOf3_38 {G : j_G} {d B S N : Nat} {K : Nat → Option (Nat × Nat)} {M : Nat → Int → Int} {g : Nat → Int → Option Nat} {Q : j_O → j_S → Prop} {a0 a2 a3 : Nat} {x1 : Int}  (k1 : Q (.inl (some (jr_ a3))) (N, K, M, g)) : j_J G jm_As_copyOf3 d B S 38 [jr_ a0, ji_ x1, jr_ a2, jr_ a3] [] (N, K, M, g) Q :=
  j_aload_n d_As_copyOf3_38 rfl <| j_areturn d_As_copyOf3_39 rfl (Or.inr ⟨_, rfl⟩) k1
theorem s_Ab_init_0 {G : j_G} {d B S N : Nat} {K : Nat → Option (Nat × Nat)} {M : Nat → Int → Int} {g : Nat → Int → Option Nat} {Q : j_O → j_S → Prop} {a0 : Nat} {B' S' : Nat} {Q' : j_O → j_S → Prop} (hC : j_Ct G jm_Ac_init d B' S' [jr_ a0] (N, K, M, g) Q') (hR : ∀ x σ', ¬ Q' (.inr x) σ') (k1 : ∀ v σ', Q' (.inl v) σ' → j_J G jm_Ab_init (d + 1) B S 4 [jr_ a0] (v.toList ++ []) σ' Q) : j_J G jm_Ab_init (d + 1) (B' + B) (S' + S) 0 [jr_ a0] [] (N, K, M, g) Q :=
  j_aload_n d_Ab_init_0 rfl <| j_callI (as := []) (rest := []) d_Ab_init_1 c_Ab_1 rfl (Nat.le_of_ble_eq_true rfl) hC hR k1
theorem s_Ab_init_4 {G : j_G} {d B S N : Nat} {K : Nat → Option (Nat × Nat)} {M : Nat → Int → Int} {g : Nat → Int → Option Nat} {Q : j_O → j_S → Prop} {a0 : Nat} (hk1 : K a0 = some (0, 9)) (k1 : Q (.inl none) (N, K, (j_up M a0 0 0), g)) : j_J G jm_Ab_init d B S 4 [jr_ a0] [] (N, K, M, g) Q :=
  j_aload_n d_Ab_init_4 rfl <| j_iconst d_Ab_init_5 <| j_putI d_Ab_init_6 f_Ab_7 (⟨_, rfl, Or.inl rfl⟩) rfl hk1 <| j_vreturn d_Ab_init_9 rfl k1
theorem s_Ac_init_0 {G : j_G} {d B S N : Nat} {K : Nat → Option (Nat × Nat)} {M : Nat → Int → Int} {g : Nat → Int → Option Nat} {Q : j_O → j_S → Prop} {a0 : Nat}  (k1 : j_J G jm_Ac_init (d + 1) B S 4 [jr_ a0] [] (N, K, M, g) Q) : j_J G jm_Ac_init (d + 1) B S 0 [jr_ a0] [] (N, K, M, g) Q :=
  j_aload_n d_Ac_init_0 rfl <| j_objInit d_Ac_init_1 (by decide +kernel) (Nat.le_of_ble_eq_true rfl) <| k1
theorem s_Ac_init_4 {G : j_G} {d B S N : Nat} {K : Nat → Option (Nat × Nat)} {M : Nat → Int → Int} {g : Nat → Int → Option Nat} {Q : j_O → j_S → Prop} {a0 : Nat}  (k1 : Q (.inl none) (N, K, M, g)) : j_J G jm_Ac_init d B S 4 [jr_ a0] [] (N, K, M, g) Q :=
  j_vreturn d_Ac_init_4 rfl k1
