/-! decode facts, pool facts and segments: LP_add, LP_clear, LP_size, LP_line, LP_compare, LP_match, LP_findChanges, LP_write, LP_writeHunk, LP_rows, LP_type, LP_wipe, LP_character (printed by gen/mk.py) -/
theorem d_LP_add_0 : j_D jm_LP_add 0 (.iload_n 1) 1 1 := ⟨by decide +kernel, rfl⟩
theorem d_LP_add_1 : j_D jm_LP_add 1 (.invokestatic 78) 3 4 := ⟨by decide +kernel, rfl⟩
theorem d_LP_add_4 : j_E jm_LP_add 4 (.ifCond .eq) 14 7 18 := ⟨by decide +kernel, rfl, by decide⟩
theorem d_LP_add_7 : j_D jm_LP_add 7 (.iload 4) 2 9 := ⟨by decide +kernel, rfl⟩
theorem d_LP_add_9 : j_D jm_LP_add 9 (.iconst 1) 1 10 := ⟨by decide +kernel, rfl⟩
theorem d_LP_add_10 : j_D jm_LP_add 10 (.bipush 8) 2 12 := ⟨by decide +kernel, rfl⟩
theorem d_LP_add_12 : j_D jm_LP_add 12 (.invokestatic 1) 3 15 := ⟨by decide +kernel, rfl⟩
theorem d_LP_add_15 : j_E jm_LP_add 15 (.ifCond .ne) 5 18 20 := ⟨by decide +kernel, rfl, by decide⟩
theorem d_LP_add_18 : j_D jm_LP_add 18 (.iconst (-1)) 1 19 := ⟨by decide +kernel, rfl⟩
theorem d_LP_add_19 : j_D jm_LP_add 19 .ireturn 1 20 := ⟨by decide +kernel, rfl⟩
theorem d_LP_add_20 : j_D jm_LP_add 20 (.iconst 0) 1 21 := ⟨by decide +kernel, rfl⟩
theorem d_LP_add_21 : j_D jm_LP_add 21 (.istore 5) 2 23 := ⟨by decide +kernel, rfl⟩
theorem d_LP_add_23 : j_D jm_LP_add 23 (.iload 5) 2 25 := ⟨by decide +kernel, rfl⟩
theorem d_LP_add_25 : j_D jm_LP_add 25 (.iload 4) 2 27 := ⟨by decide +kernel, rfl⟩
theorem d_LP_add_27 : j_E jm_LP_add 27 (.if_icmp .ge) 29 30 56 := ⟨by decide +kernel, rfl, by decide⟩
theorem d_LP_add_30 : j_D jm_LP_add 30 (.lload_n 2) 1 31 := ⟨by decide +kernel, rfl⟩
theorem d_LP_add_31 : j_D jm_LP_add 31 (.bipush 8) 2 33 := ⟨by decide +kernel, rfl⟩
theorem d_LP_add_33 : j_D jm_LP_add 33 (.iload 5) 2 35 := ⟨by decide +kernel, rfl⟩
theorem d_LP_add_35 : j_D jm_LP_add 35 .imul 1 36 := ⟨by decide +kernel, rfl⟩
theorem d_LP_add_36 : j_D jm_LP_add 36 .lshr 1 37 := ⟨by decide +kernel, rfl⟩
theorem d_LP_add_37 : j_D jm_LP_add 37 .l2i 1 38 := ⟨by decide +kernel, rfl⟩
theorem d_LP_add_38 : j_D jm_LP_add 38 (.sipush 255) 3 41 := ⟨by decide +kernel, rfl⟩
theorem d_LP_add_41 : j_D jm_LP_add 41 .iand 1 42 := ⟨by decide +kernel, rfl⟩
theorem d_LP_add_42 : j_D jm_LP_add 42 (.invokestatic 82) 3 45 := ⟨by decide +kernel, rfl⟩
theorem d_LP_add_45 : j_E jm_LP_add 45 (.ifCond .ne) 5 48 50 := ⟨by decide +kernel, rfl, by decide⟩
theorem d_LP_add_48 : j_D jm_LP_add 48 (.iconst (-1)) 1 49 := ⟨by decide +kernel, rfl⟩
theorem d_LP_add_49 : j_D jm_LP_add 49 .ireturn 1 50 := ⟨by decide +kernel, rfl⟩
theorem d_LP_add_50 : j_D jm_LP_add 50 (.iinc 5 1) 3 53 := ⟨by decide +kernel, rfl⟩
theorem d_LP_add_53 : j_E jm_LP_add 53 .goto (-30) 56 23 := ⟨by decide +kernel, rfl, by decide⟩
theorem d_LP_add_56 : j_D jm_LP_add 56 (.aload_n 0) 1 57 := ⟨by decide +kernel, rfl⟩
theorem d_LP_add_57 : j_D jm_LP_add 57 (.getfield 15) 3 60 := ⟨by decide +kernel, rfl⟩
theorem d_LP_add_60 : j_D jm_LP_add 60 (.iload_n 1) 1 61 := ⟨by decide +kernel, rfl⟩
theorem d_LP_add_61 : j_D jm_LP_add 61 .aaload 1 62 := ⟨by decide +kernel, rfl⟩
theorem d_LP_add_62 : j_D jm_LP_add 62 (.astore 5) 2 64 := ⟨by decide +kernel, rfl⟩
theorem d_LP_add_64 : j_D jm_LP_add 64 (.aload 5) 2 66 := ⟨by decide +kernel, rfl⟩
theorem d_LP_add_66 : j_D jm_LP_add 66 (.getfield 85) 3 69 := ⟨by decide +kernel, rfl⟩
theorem d_LP_add_69 : j_D jm_LP_add 69 (.iload 4) 2 71 := ⟨by decide +kernel, rfl⟩
theorem d_LP_add_71 : j_D jm_LP_add 71 .iadd 1 72 := ⟨by decide +kernel, rfl⟩
theorem d_LP_add_72 : j_D jm_LP_add 72 (.bipush 24) 2 74 := ⟨by decide +kernel, rfl⟩
theorem d_LP_add_74 : j_E jm_LP_add 74 (.if_icmp .le) 6 77 80 := ⟨by decide +kernel, rfl, by decide⟩
theorem d_LP_add_77 : j_D jm_LP_add 77 (.bipush (-2)) 2 79 := ⟨by decide +kernel, rfl⟩
theorem d_LP_add_79 : j_D jm_LP_add 79 .ireturn 1 80 := ⟨by decide +kernel, rfl⟩
theorem d_LP_add_80 : j_D jm_LP_add 80 (.iload 4) 2 82 := ⟨by decide +kernel, rfl⟩
theorem d_LP_add_82 : j_D jm_LP_add 82 (.iconst 1) 1 83 := ⟨by decide +kernel, rfl⟩
theorem d_LP_add_83 : j_D jm_LP_add 83 .isub 1 84 := ⟨by decide +kernel, rfl⟩
theorem d_LP_add_84 : j_D jm_LP_add 84 (.istore 6) 2 86 := ⟨by decide +kernel, rfl⟩
theorem d_LP_add_86 : j_D jm_LP_add 86 (.iload 6) 2 88 := ⟨by decide +kernel, rfl⟩
theorem d_LP_add_88 : j_E jm_LP_add 88 (.ifCond .lt) 27 91 115 := ⟨by decide +kernel, rfl, by decide⟩
theorem d_LP_add_91 : j_D jm_LP_add 91 (.aload 5) 2 93 := ⟨by decide +kernel, rfl⟩
theorem d_LP_add_93 : j_D jm_LP_add 93 (.lload_n 2) 1 94 := ⟨by decide +kernel, rfl⟩
theorem d_LP_add_94 : j_D jm_LP_add 94 (.bipush 8) 2 96 := ⟨by decide +kernel, rfl⟩
theorem d_LP_add_96 : j_D jm_LP_add 96 (.iload 6) 2 98 := ⟨by decide +kernel, rfl⟩
theorem d_LP_add_98 : j_D jm_LP_add 98 .imul 1 99 := ⟨by decide +kernel, rfl⟩
theorem d_LP_add_99 : j_D jm_LP_add 99 .lshr 1 100 := ⟨by decide +kernel, rfl⟩
theorem d_LP_add_100 : j_D jm_LP_add 100 .l2i 1 101 := ⟨by decide +kernel, rfl⟩
theorem d_LP_add_101 : j_D jm_LP_add 101 (.sipush 255) 3 104 := ⟨by decide +kernel, rfl⟩
theorem d_LP_add_104 : j_D jm_LP_add 104 .iand 1 105 := ⟨by decide +kernel, rfl⟩
theorem d_LP_add_105 : j_D jm_LP_add 105 (.invokevirtual 89) 3 108 := ⟨by decide +kernel, rfl⟩
theorem d_LP_add_108 : j_D jm_LP_add 108 .pop 1 109 := ⟨by decide +kernel, rfl⟩
theorem d_LP_add_109 : j_D jm_LP_add 109 (.iinc 6 (-1)) 3 112 := ⟨by decide +kernel, rfl⟩
theorem d_LP_add_112 : j_E jm_LP_add 112 .goto (-26) 115 86 := ⟨by decide +kernel, rfl, by decide⟩
theorem d_LP_add_115 : j_D jm_LP_add 115 (.aload 5) 2 117 := ⟨by decide +kernel, rfl⟩
theorem d_LP_add_117 : j_D jm_LP_add 117 (.getfield 85) 3 120 := ⟨by decide +kernel, rfl⟩
theorem d_LP_add_120 : j_D jm_LP_add 120 .ireturn 1 121 := ⟨by decide +kernel, rfl⟩
theorem d_LP_clear_0 : j_D jm_LP_clear 0 (.iload_n 1) 1 1 := ⟨by decide +kernel, rfl⟩
theorem d_LP_clear_1 : j_D jm_LP_clear 1 (.invokestatic 78) 3 4 := ⟨by decide +kernel, rfl⟩
theorem d_LP_clear_4 : j_E jm_LP_clear 4 (.ifCond .ne) 5 7 9 := ⟨by decide +kernel, rfl, by decide⟩
theorem d_LP_clear_7 : j_D jm_LP_clear 7 (.iconst (-1)) 1 8 := ⟨by decide +kernel, rfl⟩
theorem d_LP_clear_8 : j_D jm_LP_clear 8 .ireturn 1 9 := ⟨by decide +kernel, rfl⟩
theorem d_LP_clear_9 : j_D jm_LP_clear 9 (.aload_n 0) 1 10 := ⟨by decide +kernel, rfl⟩
theorem d_LP_clear_10 : j_D jm_LP_clear 10 (.getfield 15) 3 13 := ⟨by decide +kernel, rfl⟩
theorem d_LP_clear_13 : j_D jm_LP_clear 13 (.iload_n 1) 1 14 := ⟨by decide +kernel, rfl⟩
theorem d_LP_clear_14 : j_D jm_LP_clear 14 .aaload 1 15 := ⟨by decide +kernel, rfl⟩
theorem d_LP_clear_15 : j_D jm_LP_clear 15 (.getfield 85) 3 18 := ⟨by decide +kernel, rfl⟩
theorem d_LP_clear_18 : j_D jm_LP_clear 18 (.istore_n 2) 1 19 := ⟨by decide +kernel, rfl⟩
theorem d_LP_clear_19 : j_D jm_LP_clear 19 (.aload_n 0) 1 20 := ⟨by decide +kernel, rfl⟩
theorem d_LP_clear_20 : j_D jm_LP_clear 20 (.getfield 15) 3 23 := ⟨by decide +kernel, rfl⟩
theorem d_LP_clear_23 : j_D jm_LP_clear 23 (.iload_n 1) 1 24 := ⟨by decide +kernel, rfl⟩
theorem d_LP_clear_24 : j_D jm_LP_clear 24 .aaload 1 25 := ⟨by decide +kernel, rfl⟩
theorem d_LP_clear_25 : j_D jm_LP_clear 25 (.iconst 0) 1 26 := ⟨by decide +kernel, rfl⟩
theorem d_LP_clear_26 : j_D jm_LP_clear 26 (.putfield 85) 3 29 := ⟨by decide +kernel, rfl⟩
theorem d_LP_clear_29 : j_D jm_LP_clear 29 (.iload_n 2) 1 30 := ⟨by decide +kernel, rfl⟩
theorem d_LP_clear_30 : j_D jm_LP_clear 30 .ireturn 1 31 := ⟨by decide +kernel, rfl⟩
theorem d_LP_size_0 : j_D jm_LP_size 0 (.iload_n 1) 1 1 := ⟨by decide +kernel, rfl⟩
theorem d_LP_size_1 : j_D jm_LP_size 1 (.invokestatic 78) 3 4 := ⟨by decide +kernel, rfl⟩
theorem d_LP_size_4 : j_E jm_LP_size 4 (.ifCond .eq) 15 7 19 := ⟨by decide +kernel, rfl, by decide⟩
theorem d_LP_size_7 : j_D jm_LP_size 7 (.aload_n 0) 1 8 := ⟨by decide +kernel, rfl⟩
theorem d_LP_size_8 : j_D jm_LP_size 8 (.getfield 15) 3 11 := ⟨by decide +kernel, rfl⟩
theorem d_LP_size_11 : j_D jm_LP_size 11 (.iload_n 1) 1 12 := ⟨by decide +kernel, rfl⟩
theorem d_LP_size_12 : j_D jm_LP_size 12 .aaload 1 13 := ⟨by decide +kernel, rfl⟩
theorem d_LP_size_13 : j_D jm_LP_size 13 (.getfield 85) 3 16 := ⟨by decide +kernel, rfl⟩
theorem d_LP_size_16 : j_E jm_LP_size 16 .goto 4 19 20 := ⟨by decide +kernel, rfl, by decide⟩
theorem d_LP_size_19 : j_D jm_LP_size 19 (.iconst (-1)) 1 20 := ⟨by decide +kernel, rfl⟩
theorem d_LP_size_20 : j_D jm_LP_size 20 .ireturn 1 21 := ⟨by decide +kernel, rfl⟩
theorem d_LP_line_0 : j_D jm_LP_line 0 (.iload_n 1) 1 1 := ⟨by decide +kernel, rfl⟩
theorem d_LP_line_1 : j_D jm_LP_line 1 (.invokestatic 78) 3 4 := ⟨by decide +kernel, rfl⟩
theorem d_LP_line_4 : j_E jm_LP_line 4 (.ifCond .ne) 5 7 9 := ⟨by decide +kernel, rfl, by decide⟩
theorem d_LP_line_7 : j_D jm_LP_line 7 (.iconst (-1)) 1 8 := ⟨by decide +kernel, rfl⟩
theorem d_LP_line_8 : j_D jm_LP_line 8 .ireturn 1 9 := ⟨by decide +kernel, rfl⟩
theorem d_LP_line_9 : j_D jm_LP_line 9 (.iload_n 2) 1 10 := ⟨by decide +kernel, rfl⟩
theorem d_LP_line_10 : j_D jm_LP_line 10 (.iconst 0) 1 11 := ⟨by decide +kernel, rfl⟩
theorem d_LP_line_11 : j_D jm_LP_line 11 (.aload_n 0) 1 12 := ⟨by decide +kernel, rfl⟩
theorem d_LP_line_12 : j_D jm_LP_line 12 (.getfield 15) 3 15 := ⟨by decide +kernel, rfl⟩
theorem d_LP_line_15 : j_D jm_LP_line 15 (.iload_n 1) 1 16 := ⟨by decide +kernel, rfl⟩
theorem d_LP_line_16 : j_D jm_LP_line 16 .aaload 1 17 := ⟨by decide +kernel, rfl⟩
theorem d_LP_line_17 : j_D jm_LP_line 17 (.getfield 85) 3 20 := ⟨by decide +kernel, rfl⟩
theorem d_LP_line_20 : j_D jm_LP_line 20 (.iconst 1) 1 21 := ⟨by decide +kernel, rfl⟩
theorem d_LP_line_21 : j_D jm_LP_line 21 .isub 1 22 := ⟨by decide +kernel, rfl⟩
theorem d_LP_line_22 : j_D jm_LP_line 22 (.invokestatic 1) 3 25 := ⟨by decide +kernel, rfl⟩
theorem d_LP_line_25 : j_E jm_LP_line 25 (.ifCond .eq) 17 28 42 := ⟨by decide +kernel, rfl, by decide⟩
theorem d_LP_line_28 : j_D jm_LP_line 28 (.aload_n 0) 1 29 := ⟨by decide +kernel, rfl⟩
theorem d_LP_line_29 : j_D jm_LP_line 29 (.getfield 15) 3 32 := ⟨by decide +kernel, rfl⟩
theorem d_LP_line_32 : j_D jm_LP_line 32 (.iload_n 1) 1 33 := ⟨by decide +kernel, rfl⟩
theorem d_LP_line_33 : j_D jm_LP_line 33 .aaload 1 34 := ⟨by decide +kernel, rfl⟩
theorem d_LP_line_34 : j_D jm_LP_line 34 (.getfield 92) 3 37 := ⟨by decide +kernel, rfl⟩
theorem d_LP_line_37 : j_D jm_LP_line 37 (.iload_n 2) 1 38 := ⟨by decide +kernel, rfl⟩
theorem d_LP_line_38 : j_D jm_LP_line 38 .baload 1 39 := ⟨by decide +kernel, rfl⟩
theorem d_LP_line_39 : j_E jm_LP_line 39 .goto 5 42 44 := ⟨by decide +kernel, rfl, by decide⟩
theorem d_LP_line_42 : j_D jm_LP_line 42 (.bipush (-3)) 2 44 := ⟨by decide +kernel, rfl⟩
theorem d_LP_line_44 : j_D jm_LP_line 44 .ireturn 1 45 := ⟨by decide +kernel, rfl⟩
theorem d_LP_compare_0 : j_D jm_LP_compare 0 (.iload_n 1) 1 1 := ⟨by decide +kernel, rfl⟩
theorem d_LP_compare_1 : j_D jm_LP_compare 1 (.invokestatic 78) 3 4 := ⟨by decide +kernel, rfl⟩
theorem d_LP_compare_4 : j_E jm_LP_compare 4 (.ifCond .eq) 19 7 23 := ⟨by decide +kernel, rfl, by decide⟩
theorem d_LP_compare_7 : j_D jm_LP_compare 7 (.iload_n 2) 1 8 := ⟨by decide +kernel, rfl⟩
theorem d_LP_compare_8 : j_D jm_LP_compare 8 (.invokestatic 78) 3 11 := ⟨by decide +kernel, rfl⟩
theorem d_LP_compare_11 : j_E jm_LP_compare 11 (.ifCond .eq) 12 14 23 := ⟨by decide +kernel, rfl, by decide⟩
theorem d_LP_compare_14 : j_D jm_LP_compare 14 (.iload_n 3) 1 15 := ⟨by decide +kernel, rfl⟩
theorem d_LP_compare_15 : j_D jm_LP_compare 15 (.iconst 0) 1 16 := ⟨by decide +kernel, rfl⟩
theorem d_LP_compare_16 : j_D jm_LP_compare 16 (.iconst 1) 1 17 := ⟨by decide +kernel, rfl⟩
theorem d_LP_compare_17 : j_D jm_LP_compare 17 (.invokestatic 1) 3 20 := ⟨by decide +kernel, rfl⟩
theorem d_LP_compare_20 : j_E jm_LP_compare 20 (.ifCond .ne) 5 23 25 := ⟨by decide +kernel, rfl, by decide⟩
theorem d_LP_compare_23 : j_D jm_LP_compare 23 (.iconst (-1)) 1 24 := ⟨by decide +kernel, rfl⟩
theorem d_LP_compare_24 : j_D jm_LP_compare 24 .ireturn 1 25 := ⟨by decide +kernel, rfl⟩
theorem d_LP_compare_25 : j_D jm_LP_compare 25 (.aload_n 0) 1 26 := ⟨by decide +kernel, rfl⟩
theorem d_LP_compare_26 : j_D jm_LP_compare 26 (.getfield 15) 3 29 := ⟨by decide +kernel, rfl⟩
theorem d_LP_compare_29 : j_D jm_LP_compare 29 (.iload_n 1) 1 30 := ⟨by decide +kernel, rfl⟩
theorem d_LP_compare_30 : j_D jm_LP_compare 30 .aaload 1 31 := ⟨by decide +kernel, rfl⟩
theorem d_LP_compare_31 : j_D jm_LP_compare 31 (.invokevirtual 96) 3 34 := ⟨by decide +kernel, rfl⟩
theorem d_LP_compare_34 : j_E jm_LP_compare 34 (.ifCond .eq) 15 37 49 := ⟨by decide +kernel, rfl, by decide⟩
theorem d_LP_compare_37 : j_D jm_LP_compare 37 (.aload_n 0) 1 38 := ⟨by decide +kernel, rfl⟩
theorem d_LP_compare_38 : j_D jm_LP_compare 38 (.getfield 15) 3 41 := ⟨by decide +kernel, rfl⟩
theorem d_LP_compare_41 : j_D jm_LP_compare 41 (.iload_n 2) 1 42 := ⟨by decide +kernel, rfl⟩
theorem d_LP_compare_42 : j_D jm_LP_compare 42 .aaload 1 43 := ⟨by decide +kernel, rfl⟩
theorem d_LP_compare_43 : j_D jm_LP_compare 43 (.invokevirtual 96) 3 46 := ⟨by decide +kernel, rfl⟩
theorem d_LP_compare_46 : j_E jm_LP_compare 46 (.ifCond .ne) 6 49 52 := ⟨by decide +kernel, rfl, by decide⟩
theorem d_LP_compare_49 : j_D jm_LP_compare 49 (.bipush (-3)) 2 51 := ⟨by decide +kernel, rfl⟩
theorem d_LP_compare_51 : j_D jm_LP_compare 51 .ireturn 1 52 := ⟨by decide +kernel, rfl⟩
theorem d_LP_compare_52 : j_D jm_LP_compare 52 (.aload_n 0) 1 53 := ⟨by decide +kernel, rfl⟩
theorem d_LP_compare_53 : j_D jm_LP_compare 53 (.getfield 40) 3 56 := ⟨by decide +kernel, rfl⟩
theorem d_LP_compare_56 : j_D jm_LP_compare 56 (.aload_n 0) 1 57 := ⟨by decide +kernel, rfl⟩
theorem d_LP_compare_57 : j_D jm_LP_compare 57 (.getfield 15) 3 60 := ⟨by decide +kernel, rfl⟩
theorem d_LP_compare_60 : j_D jm_LP_compare 60 (.iload_n 1) 1 61 := ⟨by decide +kernel, rfl⟩
theorem d_LP_compare_61 : j_D jm_LP_compare 61 .aaload 1 62 := ⟨by decide +kernel, rfl⟩
theorem d_LP_compare_62 : j_D jm_LP_compare 62 (.aload_n 0) 1 63 := ⟨by decide +kernel, rfl⟩
theorem d_LP_compare_63 : j_D jm_LP_compare 63 (.getfield 15) 3 66 := ⟨by decide +kernel, rfl⟩
theorem d_LP_compare_66 : j_D jm_LP_compare 66 (.iload_n 2) 1 67 := ⟨by decide +kernel, rfl⟩
theorem d_LP_compare_67 : j_D jm_LP_compare 67 .aaload 1 68 := ⟨by decide +kernel, rfl⟩
theorem d_LP_compare_68 : j_D jm_LP_compare 68 (.invokevirtual 100) 3 71 := ⟨by decide +kernel, rfl⟩
theorem d_LP_compare_71 : j_D jm_LP_compare 71 (.aload_n 0) 1 72 := ⟨by decide +kernel, rfl⟩
theorem d_LP_compare_72 : j_D jm_LP_compare 72 (.getfield 33) 3 75 := ⟨by decide +kernel, rfl⟩
theorem d_LP_compare_75 : j_D jm_LP_compare 75 (.iload_n 3) 1 76 := ⟨by decide +kernel, rfl⟩
theorem d_LP_compare_76 : j_D jm_LP_compare 76 .aaload 1 77 := ⟨by decide +kernel, rfl⟩
theorem d_LP_compare_77 : j_D jm_LP_compare 77 (.aload_n 0) 1 78 := ⟨by decide +kernel, rfl⟩
theorem d_LP_compare_78 : j_D jm_LP_compare 78 (.getfield 40) 3 81 := ⟨by decide +kernel, rfl⟩
theorem d_LP_compare_81 : j_D jm_LP_compare 81 (.iconst 0) 1 82 := ⟨by decide +kernel, rfl⟩
theorem d_LP_compare_82 : j_D jm_LP_compare 82 (.aload_n 0) 1 83 := ⟨by decide +kernel, rfl⟩
theorem d_LP_compare_83 : j_D jm_LP_compare 83 (.getfield 40) 3 86 := ⟨by decide +kernel, rfl⟩
theorem d_LP_compare_86 : j_D jm_LP_compare 86 (.getfield 104) 3 89 := ⟨by decide +kernel, rfl⟩
theorem d_LP_compare_89 : j_D jm_LP_compare 89 (.getfield 85) 3 92 := ⟨by decide +kernel, rfl⟩
theorem d_LP_compare_92 : j_D jm_LP_compare 92 (.iconst 0) 1 93 := ⟨by decide +kernel, rfl⟩
theorem d_LP_compare_93 : j_D jm_LP_compare 93 (.aload_n 0) 1 94 := ⟨by decide +kernel, rfl⟩
theorem d_LP_compare_94 : j_D jm_LP_compare 94 (.getfield 40) 3 97 := ⟨by decide +kernel, rfl⟩
theorem d_LP_compare_97 : j_D jm_LP_compare 97 (.getfield 107) 3 100 := ⟨by decide +kernel, rfl⟩
theorem d_LP_compare_100 : j_D jm_LP_compare 100 (.getfield 85) 3 103 := ⟨by decide +kernel, rfl⟩
theorem d_LP_compare_103 : j_D jm_LP_compare 103 (.invokeinterface 110 6) 5 108 := ⟨by decide +kernel, rfl⟩
theorem d_LP_compare_108 : j_D jm_LP_compare 108 (.aload_n 0) 1 109 := ⟨by decide +kernel, rfl⟩
theorem d_LP_compare_109 : j_D jm_LP_compare 109 (.iconst 1) 1 110 := ⟨by decide +kernel, rfl⟩
theorem d_LP_compare_110 : j_D jm_LP_compare 110 (.putfield 114) 3 113 := ⟨by decide +kernel, rfl⟩
theorem d_LP_compare_113 : j_D jm_LP_compare 113 (.aload_n 0) 1 114 := ⟨by decide +kernel, rfl⟩
theorem d_LP_compare_114 : j_D jm_LP_compare 114 (.getfield 40) 3 117 := ⟨by decide +kernel, rfl⟩
theorem d_LP_compare_117 : j_D jm_LP_compare 117 (.invokevirtual 118) 3 120 := ⟨by decide +kernel, rfl⟩
theorem d_LP_compare_120 : j_D jm_LP_compare 120 .ireturn 1 121 := ⟨by decide +kernel, rfl⟩
theorem d_LP_match_0 : j_D jm_LP_match 0 (.aload_n 0) 1 1 := ⟨by decide +kernel, rfl⟩
theorem d_LP_match_1 : j_D jm_LP_match 1 (.getfield 114) 3 4 := ⟨by decide +kernel, rfl⟩
theorem d_LP_match_4 : j_E jm_LP_match 4 (.ifCond .eq) 35 7 39 := ⟨by decide +kernel, rfl, by decide⟩
theorem d_LP_match_7 : j_D jm_LP_match 7 (.iload_n 1) 1 8 := ⟨by decide +kernel, rfl⟩
theorem d_LP_match_8 : j_D jm_LP_match 8 (.iconst 0) 1 9 := ⟨by decide +kernel, rfl⟩
theorem d_LP_match_9 : j_D jm_LP_match 9 (.aload_n 0) 1 10 := ⟨by decide +kernel, rfl⟩
theorem d_LP_match_10 : j_D jm_LP_match 10 (.getfield 40) 3 13 := ⟨by decide +kernel, rfl⟩
theorem d_LP_match_13 : j_D jm_LP_match 13 (.getfield 104) 3 16 := ⟨by decide +kernel, rfl⟩
theorem d_LP_match_16 : j_D jm_LP_match 16 (.getfield 85) 3 19 := ⟨by decide +kernel, rfl⟩
theorem d_LP_match_19 : j_D jm_LP_match 19 (.iconst 1) 1 20 := ⟨by decide +kernel, rfl⟩
theorem d_LP_match_20 : j_D jm_LP_match 20 .isub 1 21 := ⟨by decide +kernel, rfl⟩
theorem d_LP_match_21 : j_D jm_LP_match 21 (.invokestatic 1) 3 24 := ⟨by decide +kernel, rfl⟩
theorem d_LP_match_24 : j_E jm_LP_match 24 (.ifCond .eq) 15 27 39 := ⟨by decide +kernel, rfl, by decide⟩
theorem d_LP_match_27 : j_D jm_LP_match 27 (.aload_n 0) 1 28 := ⟨by decide +kernel, rfl⟩
theorem d_LP_match_28 : j_D jm_LP_match 28 (.getfield 40) 3 31 := ⟨by decide +kernel, rfl⟩
theorem d_LP_match_31 : j_D jm_LP_match 31 (.getfield 121) 3 34 := ⟨by decide +kernel, rfl⟩
theorem d_LP_match_34 : j_D jm_LP_match 34 (.iload_n 1) 1 35 := ⟨by decide +kernel, rfl⟩
theorem d_LP_match_35 : j_D jm_LP_match 35 .baload 1 36 := ⟨by decide +kernel, rfl⟩
theorem d_LP_match_36 : j_E jm_LP_match 36 (.ifCond .ge) 6 39 42 := ⟨by decide +kernel, rfl, by decide⟩
theorem d_LP_match_39 : j_D jm_LP_match 39 (.bipush (-3)) 2 41 := ⟨by decide +kernel, rfl⟩
theorem d_LP_match_41 : j_D jm_LP_match 41 .ireturn 1 42 := ⟨by decide +kernel, rfl⟩
theorem d_LP_match_42 : j_D jm_LP_match 42 (.aload_n 0) 1 43 := ⟨by decide +kernel, rfl⟩
theorem d_LP_match_43 : j_D jm_LP_match 43 (.getfield 40) 3 46 := ⟨by decide +kernel, rfl⟩
theorem d_LP_match_46 : j_D jm_LP_match 46 (.getfield 121) 3 49 := ⟨by decide +kernel, rfl⟩
theorem d_LP_match_49 : j_D jm_LP_match 49 (.iload_n 1) 1 50 := ⟨by decide +kernel, rfl⟩
theorem d_LP_match_50 : j_D jm_LP_match 50 .baload 1 51 := ⟨by decide +kernel, rfl⟩
theorem d_LP_match_51 : j_D jm_LP_match 51 .ireturn 1 52 := ⟨by decide +kernel, rfl⟩
theorem d_LP_findChanges_0 : j_D jm_LP_findChanges 0 (.aload_n 0) 1 1 := ⟨by decide +kernel, rfl⟩
theorem d_LP_findChanges_1 : j_D jm_LP_findChanges 1 (.iconst 0) 1 2 := ⟨by decide +kernel, rfl⟩
theorem d_LP_findChanges_2 : j_D jm_LP_findChanges 2 (.putfield 124) 3 5 := ⟨by decide +kernel, rfl⟩
theorem d_LP_findChanges_5 : j_D jm_LP_findChanges 5 (.iconst 0) 1 6 := ⟨by decide +kernel, rfl⟩
theorem d_LP_findChanges_6 : j_D jm_LP_findChanges 6 (.istore_n 1) 1 7 := ⟨by decide +kernel, rfl⟩
theorem d_LP_findChanges_7 : j_D jm_LP_findChanges 7 (.iconst 0) 1 8 := ⟨by decide +kernel, rfl⟩
theorem d_LP_findChanges_8 : j_D jm_LP_findChanges 8 (.istore_n 2) 1 9 := ⟨by decide +kernel, rfl⟩
theorem d_LP_findChanges_9 : j_D jm_LP_findChanges 9 (.iload_n 1) 1 10 := ⟨by decide +kernel, rfl⟩
theorem d_LP_findChanges_10 : j_D jm_LP_findChanges 10 (.aload_n 0) 1 11 := ⟨by decide +kernel, rfl⟩
theorem d_LP_findChanges_11 : j_D jm_LP_findChanges 11 (.getfield 40) 3 14 := ⟨by decide +kernel, rfl⟩
theorem d_LP_findChanges_14 : j_D jm_LP_findChanges 14 (.getfield 104) 3 17 := ⟨by decide +kernel, rfl⟩
theorem d_LP_findChanges_17 : j_D jm_LP_findChanges 17 (.getfield 85) 3 20 := ⟨by decide +kernel, rfl⟩
theorem d_LP_findChanges_20 : j_E jm_LP_findChanges 20 (.if_icmp .lt) 17 23 37 := ⟨by decide +kernel, rfl, by decide⟩
theorem d_LP_findChanges_23 : j_D jm_LP_findChanges 23 (.iload_n 2) 1 24 := ⟨by decide +kernel, rfl⟩
theorem d_LP_findChanges_24 : j_D jm_LP_findChanges 24 (.aload_n 0) 1 25 := ⟨by decide +kernel, rfl⟩
theorem d_LP_findChanges_25 : j_D jm_LP_findChanges 25 (.getfield 40) 3 28 := ⟨by decide +kernel, rfl⟩
theorem d_LP_findChanges_28 : j_D jm_LP_findChanges 28 (.getfield 107) 3 31 := ⟨by decide +kernel, rfl⟩
theorem d_LP_findChanges_31 : j_D jm_LP_findChanges 31 (.getfield 85) 3 34 := ⟨by decide +kernel, rfl⟩
theorem d_LP_findChanges_34 : j_E jm_LP_findChanges 34 (.if_icmp .ge) 151 37 185 := ⟨by decide +kernel, rfl, by decide⟩
theorem d_LP_findChanges_37 : j_D jm_LP_findChanges 37 (.iload_n 1) 1 38 := ⟨by decide +kernel, rfl⟩
theorem d_LP_findChanges_38 : j_D jm_LP_findChanges 38 (.aload_n 0) 1 39 := ⟨by decide +kernel, rfl⟩
theorem d_LP_findChanges_39 : j_D jm_LP_findChanges 39 (.getfield 40) 3 42 := ⟨by decide +kernel, rfl⟩
theorem d_LP_findChanges_42 : j_D jm_LP_findChanges 42 (.getfield 104) 3 45 := ⟨by decide +kernel, rfl⟩
theorem d_LP_findChanges_45 : j_D jm_LP_findChanges 45 (.getfield 85) 3 48 := ⟨by decide +kernel, rfl⟩
theorem d_LP_findChanges_48 : j_E jm_LP_findChanges 48 (.if_icmp .ge) 25 51 73 := ⟨by decide +kernel, rfl, by decide⟩
theorem d_LP_findChanges_51 : j_D jm_LP_findChanges 51 (.aload_n 0) 1 52 := ⟨by decide +kernel, rfl⟩
theorem d_LP_findChanges_52 : j_D jm_LP_findChanges 52 (.getfield 40) 3 55 := ⟨by decide +kernel, rfl⟩
theorem d_LP_findChanges_55 : j_D jm_LP_findChanges 55 (.getfield 121) 3 58 := ⟨by decide +kernel, rfl⟩
theorem d_LP_findChanges_58 : j_D jm_LP_findChanges 58 (.iload_n 1) 1 59 := ⟨by decide +kernel, rfl⟩
theorem d_LP_findChanges_59 : j_D jm_LP_findChanges 59 .baload 1 60 := ⟨by decide +kernel, rfl⟩
theorem d_LP_findChanges_60 : j_D jm_LP_findChanges 60 (.iload_n 2) 1 61 := ⟨by decide +kernel, rfl⟩
theorem d_LP_findChanges_61 : j_E jm_LP_findChanges 61 (.if_icmp .ne) 12 64 73 := ⟨by decide +kernel, rfl, by decide⟩
theorem d_LP_findChanges_64 : j_D jm_LP_findChanges 64 (.iinc 1 1) 3 67 := ⟨by decide +kernel, rfl⟩
theorem d_LP_findChanges_67 : j_D jm_LP_findChanges 67 (.iinc 2 1) 3 70 := ⟨by decide +kernel, rfl⟩
theorem d_LP_findChanges_70 : j_E jm_LP_findChanges 70 .goto (-61) 73 9 := ⟨by decide +kernel, rfl, by decide⟩
theorem d_LP_findChanges_73 : j_D jm_LP_findChanges 73 (.aload_n 0) 1 74 := ⟨by decide +kernel, rfl⟩
theorem d_LP_findChanges_74 : j_D jm_LP_findChanges 74 (.getfield 57) 3 77 := ⟨by decide +kernel, rfl⟩
theorem d_LP_findChanges_77 : j_D jm_LP_findChanges 77 (.aload_n 0) 1 78 := ⟨by decide +kernel, rfl⟩
theorem d_LP_findChanges_78 : j_D jm_LP_findChanges 78 (.getfield 124) 3 81 := ⟨by decide +kernel, rfl⟩
theorem d_LP_findChanges_81 : j_D jm_LP_findChanges 81 .aaload 1 82 := ⟨by decide +kernel, rfl⟩
theorem d_LP_findChanges_82 : j_D jm_LP_findChanges 82 (.astore_n 3) 1 83 := ⟨by decide +kernel, rfl⟩
theorem d_LP_findChanges_83 : j_D jm_LP_findChanges 83 (.aload_n 3) 1 84 := ⟨by decide +kernel, rfl⟩
theorem d_LP_findChanges_84 : j_D jm_LP_findChanges 84 (.iload_n 1) 1 85 := ⟨by decide +kernel, rfl⟩
theorem d_LP_findChanges_85 : j_D jm_LP_findChanges 85 (.putfield 127) 3 88 := ⟨by decide +kernel, rfl⟩
theorem d_LP_findChanges_88 : j_D jm_LP_findChanges 88 (.aload_n 3) 1 89 := ⟨by decide +kernel, rfl⟩
theorem d_LP_findChanges_89 : j_D jm_LP_findChanges 89 (.iload_n 2) 1 90 := ⟨by decide +kernel, rfl⟩
theorem d_LP_findChanges_90 : j_D jm_LP_findChanges 90 (.putfield 129) 3 93 := ⟨by decide +kernel, rfl⟩
theorem d_LP_findChanges_93 : j_D jm_LP_findChanges 93 (.iload_n 1) 1 94 := ⟨by decide +kernel, rfl⟩
theorem d_LP_findChanges_94 : j_D jm_LP_findChanges 94 (.aload_n 0) 1 95 := ⟨by decide +kernel, rfl⟩
theorem d_LP_findChanges_95 : j_D jm_LP_findChanges 95 (.getfield 40) 3 98 := ⟨by decide +kernel, rfl⟩
theorem d_LP_findChanges_98 : j_D jm_LP_findChanges 98 (.getfield 104) 3 101 := ⟨by decide +kernel, rfl⟩
theorem d_LP_findChanges_101 : j_D jm_LP_findChanges 101 (.getfield 85) 3 104 := ⟨by decide +kernel, rfl⟩
theorem d_LP_findChanges_104 : j_E jm_LP_findChanges 104 (.if_icmp .ge) 21 107 125 := ⟨by decide +kernel, rfl, by decide⟩
theorem d_LP_findChanges_107 : j_D jm_LP_findChanges 107 (.aload_n 0) 1 108 := ⟨by decide +kernel, rfl⟩
theorem d_LP_findChanges_108 : j_D jm_LP_findChanges 108 (.getfield 40) 3 111 := ⟨by decide +kernel, rfl⟩
theorem d_LP_findChanges_111 : j_D jm_LP_findChanges 111 (.getfield 121) 3 114 := ⟨by decide +kernel, rfl⟩
theorem d_LP_findChanges_114 : j_D jm_LP_findChanges 114 (.iload_n 1) 1 115 := ⟨by decide +kernel, rfl⟩
theorem d_LP_findChanges_115 : j_D jm_LP_findChanges 115 .baload 1 116 := ⟨by decide +kernel, rfl⟩
theorem d_LP_findChanges_116 : j_E jm_LP_findChanges 116 (.ifCond .ge) 9 119 125 := ⟨by decide +kernel, rfl, by decide⟩
theorem d_LP_findChanges_119 : j_D jm_LP_findChanges 119 (.iinc 1 1) 3 122 := ⟨by decide +kernel, rfl⟩
theorem d_LP_findChanges_122 : j_E jm_LP_findChanges 122 .goto (-29) 125 93 := ⟨by decide +kernel, rfl, by decide⟩
theorem d_LP_findChanges_125 : j_D jm_LP_findChanges 125 (.iload_n 1) 1 126 := ⟨by decide +kernel, rfl⟩
theorem d_LP_findChanges_126 : j_D jm_LP_findChanges 126 (.aload_n 0) 1 127 := ⟨by decide +kernel, rfl⟩
theorem d_LP_findChanges_127 : j_D jm_LP_findChanges 127 (.getfield 40) 3 130 := ⟨by decide +kernel, rfl⟩
theorem d_LP_findChanges_130 : j_D jm_LP_findChanges 130 (.getfield 104) 3 133 := ⟨by decide +kernel, rfl⟩
theorem d_LP_findChanges_133 : j_D jm_LP_findChanges 133 (.getfield 85) 3 136 := ⟨by decide +kernel, rfl⟩
theorem d_LP_findChanges_136 : j_E jm_LP_findChanges 136 (.if_icmp .ge) 15 139 151 := ⟨by decide +kernel, rfl, by decide⟩
theorem d_LP_findChanges_139 : j_D jm_LP_findChanges 139 (.aload_n 0) 1 140 := ⟨by decide +kernel, rfl⟩
theorem d_LP_findChanges_140 : j_D jm_LP_findChanges 140 (.getfield 40) 3 143 := ⟨by decide +kernel, rfl⟩
theorem d_LP_findChanges_143 : j_D jm_LP_findChanges 143 (.getfield 121) 3 146 := ⟨by decide +kernel, rfl⟩
theorem d_LP_findChanges_146 : j_D jm_LP_findChanges 146 (.iload_n 1) 1 147 := ⟨by decide +kernel, rfl⟩
theorem d_LP_findChanges_147 : j_D jm_LP_findChanges 147 .baload 1 148 := ⟨by decide +kernel, rfl⟩
theorem d_LP_findChanges_148 : j_E jm_LP_findChanges 148 .goto 13 151 161 := ⟨by decide +kernel, rfl, by decide⟩
theorem d_LP_findChanges_151 : j_D jm_LP_findChanges 151 (.aload_n 0) 1 152 := ⟨by decide +kernel, rfl⟩
theorem d_LP_findChanges_152 : j_D jm_LP_findChanges 152 (.getfield 40) 3 155 := ⟨by decide +kernel, rfl⟩
theorem d_LP_findChanges_155 : j_D jm_LP_findChanges 155 (.getfield 107) 3 158 := ⟨by decide +kernel, rfl⟩
theorem d_LP_findChanges_158 : j_D jm_LP_findChanges 158 (.getfield 85) 3 161 := ⟨by decide +kernel, rfl⟩
theorem d_LP_findChanges_161 : j_D jm_LP_findChanges 161 (.istore_n 2) 1 162 := ⟨by decide +kernel, rfl⟩
theorem d_LP_findChanges_162 : j_D jm_LP_findChanges 162 (.aload_n 3) 1 163 := ⟨by decide +kernel, rfl⟩
theorem d_LP_findChanges_163 : j_D jm_LP_findChanges 163 (.iload_n 1) 1 164 := ⟨by decide +kernel, rfl⟩
theorem d_LP_findChanges_164 : j_D jm_LP_findChanges 164 (.putfield 131) 3 167 := ⟨by decide +kernel, rfl⟩
theorem d_LP_findChanges_167 : j_D jm_LP_findChanges 167 (.aload_n 3) 1 168 := ⟨by decide +kernel, rfl⟩
theorem d_LP_findChanges_168 : j_D jm_LP_findChanges 168 (.iload_n 2) 1 169 := ⟨by decide +kernel, rfl⟩
theorem d_LP_findChanges_169 : j_D jm_LP_findChanges 169 (.putfield 134) 3 172 := ⟨by decide +kernel, rfl⟩
theorem d_LP_findChanges_172 : j_D jm_LP_findChanges 172 (.aload_n 0) 1 173 := ⟨by decide +kernel, rfl⟩
theorem d_LP_findChanges_173 : j_D jm_LP_findChanges 173 .dup 1 174 := ⟨by decide +kernel, rfl⟩
theorem d_LP_findChanges_174 : j_D jm_LP_findChanges 174 (.getfield 124) 3 177 := ⟨by decide +kernel, rfl⟩
theorem d_LP_findChanges_177 : j_D jm_LP_findChanges 177 (.iconst 1) 1 178 := ⟨by decide +kernel, rfl⟩
theorem d_LP_findChanges_178 : j_D jm_LP_findChanges 178 .iadd 1 179 := ⟨by decide +kernel, rfl⟩
theorem d_LP_findChanges_179 : j_D jm_LP_findChanges 179 (.putfield 124) 3 182 := ⟨by decide +kernel, rfl⟩
theorem d_LP_findChanges_182 : j_E jm_LP_findChanges 182 .goto (-173) 185 9 := ⟨by decide +kernel, rfl, by decide⟩
theorem d_LP_findChanges_185 : j_D jm_LP_findChanges 185 .return_ 1 186 := ⟨by decide +kernel, rfl⟩
theorem d_LP_write_0 : j_D jm_LP_write 0 (.iload_n 1) 1 1 := ⟨by decide +kernel, rfl⟩
theorem d_LP_write_1 : j_D jm_LP_write 1 (.iconst 0) 1 2 := ⟨by decide +kernel, rfl⟩
theorem d_LP_write_2 : j_D jm_LP_write 2 (.iconst 3) 1 3 := ⟨by decide +kernel, rfl⟩
theorem d_LP_write_3 : j_D jm_LP_write 3 (.invokestatic 1) 3 6 := ⟨by decide +kernel, rfl⟩
theorem d_LP_write_6 : j_E jm_LP_write 6 (.ifCond .ne) 5 9 11 := ⟨by decide +kernel, rfl, by decide⟩
theorem d_LP_write_9 : j_D jm_LP_write 9 (.iconst (-1)) 1 10 := ⟨by decide +kernel, rfl⟩
theorem d_LP_write_10 : j_D jm_LP_write 10 .ireturn 1 11 := ⟨by decide +kernel, rfl⟩
theorem d_LP_write_11 : j_D jm_LP_write 11 (.aload_n 0) 1 12 := ⟨by decide +kernel, rfl⟩
theorem d_LP_write_12 : j_D jm_LP_write 12 (.getfield 114) 3 15 := ⟨by decide +kernel, rfl⟩
theorem d_LP_write_15 : j_E jm_LP_write 15 (.ifCond .ne) 6 18 21 := ⟨by decide +kernel, rfl, by decide⟩
theorem d_LP_write_18 : j_D jm_LP_write 18 (.bipush (-3)) 2 20 := ⟨by decide +kernel, rfl⟩
theorem d_LP_write_20 : j_D jm_LP_write 20 .ireturn 1 21 := ⟨by decide +kernel, rfl⟩
theorem d_LP_write_21 : j_D jm_LP_write 21 (.aload_n 0) 1 22 := ⟨by decide +kernel, rfl⟩
theorem d_LP_write_22 : j_D jm_LP_write 22 (.invokevirtual 137) 3 25 := ⟨by decide +kernel, rfl⟩
theorem d_LP_write_25 : j_D jm_LP_write 25 (.aload_n 0) 1 26 := ⟨by decide +kernel, rfl⟩
theorem d_LP_write_26 : j_D jm_LP_write 26 (.getfield 64) 3 29 := ⟨by decide +kernel, rfl⟩
theorem d_LP_write_29 : j_D jm_LP_write 29 (.iconst 0) 1 30 := ⟨by decide +kernel, rfl⟩
theorem d_LP_write_30 : j_D jm_LP_write 30 (.putfield 140) 3 33 := ⟨by decide +kernel, rfl⟩
theorem d_LP_write_33 : j_D jm_LP_write 33 (.iconst 0) 1 34 := ⟨by decide +kernel, rfl⟩
theorem d_LP_write_34 : j_D jm_LP_write 34 (.istore_n 2) 1 35 := ⟨by decide +kernel, rfl⟩
theorem d_LP_write_35 : j_D jm_LP_write 35 (.iconst 0) 1 36 := ⟨by decide +kernel, rfl⟩
theorem d_LP_write_36 : j_D jm_LP_write 36 (.istore_n 3) 1 37 := ⟨by decide +kernel, rfl⟩
theorem d_LP_write_37 : j_D jm_LP_write 37 (.iload_n 3) 1 38 := ⟨by decide +kernel, rfl⟩
theorem d_LP_write_38 : j_D jm_LP_write 38 (.aload_n 0) 1 39 := ⟨by decide +kernel, rfl⟩
theorem d_LP_write_39 : j_D jm_LP_write 39 (.getfield 124) 3 42 := ⟨by decide +kernel, rfl⟩
theorem d_LP_write_42 : j_E jm_LP_write 42 (.if_icmp .ge) 71 45 113 := ⟨by decide +kernel, rfl, by decide⟩
theorem d_LP_write_45 : j_D jm_LP_write 45 (.iload_n 3) 1 46 := ⟨by decide +kernel, rfl⟩
theorem d_LP_write_46 : j_D jm_LP_write 46 (.istore 4) 2 48 := ⟨by decide +kernel, rfl⟩
theorem d_LP_write_48 : j_D jm_LP_write 48 (.iload 4) 2 50 := ⟨by decide +kernel, rfl⟩
theorem d_LP_write_50 : j_D jm_LP_write 50 (.iconst 1) 1 51 := ⟨by decide +kernel, rfl⟩
theorem d_LP_write_51 : j_D jm_LP_write 51 .iadd 1 52 := ⟨by decide +kernel, rfl⟩
theorem d_LP_write_52 : j_D jm_LP_write 52 (.aload_n 0) 1 53 := ⟨by decide +kernel, rfl⟩
theorem d_LP_write_53 : j_D jm_LP_write 53 (.getfield 124) 3 56 := ⟨by decide +kernel, rfl⟩
theorem d_LP_write_56 : j_E jm_LP_write 56 (.if_icmp .ge) 38 59 94 := ⟨by decide +kernel, rfl, by decide⟩
theorem d_LP_write_59 : j_D jm_LP_write 59 (.aload_n 0) 1 60 := ⟨by decide +kernel, rfl⟩
theorem d_LP_write_60 : j_D jm_LP_write 60 (.getfield 57) 3 63 := ⟨by decide +kernel, rfl⟩
theorem d_LP_write_63 : j_D jm_LP_write 63 (.iload 4) 2 65 := ⟨by decide +kernel, rfl⟩
theorem d_LP_write_65 : j_D jm_LP_write 65 (.iconst 1) 1 66 := ⟨by decide +kernel, rfl⟩
theorem d_LP_write_66 : j_D jm_LP_write 66 .iadd 1 67 := ⟨by decide +kernel, rfl⟩
theorem d_LP_write_67 : j_D jm_LP_write 67 .aaload 1 68 := ⟨by decide +kernel, rfl⟩
theorem d_LP_write_68 : j_D jm_LP_write 68 (.getfield 127) 3 71 := ⟨by decide +kernel, rfl⟩
theorem d_LP_write_71 : j_D jm_LP_write 71 (.aload_n 0) 1 72 := ⟨by decide +kernel, rfl⟩
theorem d_LP_write_72 : j_D jm_LP_write 72 (.getfield 57) 3 75 := ⟨by decide +kernel, rfl⟩
theorem d_LP_write_75 : j_D jm_LP_write 75 (.iload 4) 2 77 := ⟨by decide +kernel, rfl⟩
theorem d_LP_write_77 : j_D jm_LP_write 77 .aaload 1 78 := ⟨by decide +kernel, rfl⟩
theorem d_LP_write_78 : j_D jm_LP_write 78 (.getfield 131) 3 81 := ⟨by decide +kernel, rfl⟩
theorem d_LP_write_81 : j_D jm_LP_write 81 .isub 1 82 := ⟨by decide +kernel, rfl⟩
theorem d_LP_write_82 : j_D jm_LP_write 82 (.iconst 2) 1 83 := ⟨by decide +kernel, rfl⟩
theorem d_LP_write_83 : j_D jm_LP_write 83 (.iload_n 1) 1 84 := ⟨by decide +kernel, rfl⟩
theorem d_LP_write_84 : j_D jm_LP_write 84 .imul 1 85 := ⟨by decide +kernel, rfl⟩
theorem d_LP_write_85 : j_E jm_LP_write 85 (.if_icmp .gt) 9 88 94 := ⟨by decide +kernel, rfl, by decide⟩
theorem d_LP_write_88 : j_D jm_LP_write 88 (.iinc 4 1) 3 91 := ⟨by decide +kernel, rfl⟩
theorem d_LP_write_91 : j_E jm_LP_write 91 .goto (-43) 94 48 := ⟨by decide +kernel, rfl, by decide⟩
theorem d_LP_write_94 : j_D jm_LP_write 94 (.aload_n 0) 1 95 := ⟨by decide +kernel, rfl⟩
theorem d_LP_write_95 : j_D jm_LP_write 95 (.iload_n 3) 1 96 := ⟨by decide +kernel, rfl⟩
theorem d_LP_write_96 : j_D jm_LP_write 96 (.iload 4) 2 98 := ⟨by decide +kernel, rfl⟩
theorem d_LP_write_98 : j_D jm_LP_write 98 (.iload_n 1) 1 99 := ⟨by decide +kernel, rfl⟩
theorem d_LP_write_99 : j_D jm_LP_write 99 (.invokevirtual 141) 3 102 := ⟨by decide +kernel, rfl⟩
theorem d_LP_write_102 : j_D jm_LP_write 102 (.iload 4) 2 104 := ⟨by decide +kernel, rfl⟩
theorem d_LP_write_104 : j_D jm_LP_write 104 (.iconst 1) 1 105 := ⟨by decide +kernel, rfl⟩
theorem d_LP_write_105 : j_D jm_LP_write 105 .iadd 1 106 := ⟨by decide +kernel, rfl⟩
theorem d_LP_write_106 : j_D jm_LP_write 106 (.istore_n 3) 1 107 := ⟨by decide +kernel, rfl⟩
theorem d_LP_write_107 : j_D jm_LP_write 107 (.iinc 2 1) 3 110 := ⟨by decide +kernel, rfl⟩
theorem d_LP_write_110 : j_E jm_LP_write 110 .goto (-73) 113 37 := ⟨by decide +kernel, rfl, by decide⟩
theorem d_LP_write_113 : j_D jm_LP_write 113 (.iload_n 2) 1 114 := ⟨by decide +kernel, rfl⟩
theorem d_LP_write_114 : j_D jm_LP_write 114 .ireturn 1 115 := ⟨by decide +kernel, rfl⟩
theorem d_LP_writeHunk_0 : j_D jm_LP_writeHunk 0 (.iload_n 3) 1 1 := ⟨by decide +kernel, rfl⟩
theorem d_LP_writeHunk_1 : j_D jm_LP_writeHunk 1 (.aload_n 0) 1 2 := ⟨by decide +kernel, rfl⟩
theorem d_LP_writeHunk_2 : j_D jm_LP_writeHunk 2 (.getfield 57) 3 5 := ⟨by decide +kernel, rfl⟩
theorem d_LP_writeHunk_5 : j_D jm_LP_writeHunk 5 (.iload_n 1) 1 6 := ⟨by decide +kernel, rfl⟩
theorem d_LP_writeHunk_6 : j_D jm_LP_writeHunk 6 .aaload 1 7 := ⟨by decide +kernel, rfl⟩
theorem d_LP_writeHunk_7 : j_D jm_LP_writeHunk 7 (.getfield 127) 3 10 := ⟨by decide +kernel, rfl⟩
theorem d_LP_writeHunk_10 : j_D jm_LP_writeHunk 10 (.invokestatic 145) 3 13 := ⟨by decide +kernel, rfl⟩
theorem d_LP_writeHunk_13 : j_D jm_LP_writeHunk 13 (.istore 4) 2 15 := ⟨by decide +kernel, rfl⟩
theorem d_LP_writeHunk_15 : j_D jm_LP_writeHunk 15 (.iload_n 3) 1 16 := ⟨by decide +kernel, rfl⟩
theorem d_LP_writeHunk_16 : j_D jm_LP_writeHunk 16 (.aload_n 0) 1 17 := ⟨by decide +kernel, rfl⟩
theorem d_LP_writeHunk_17 : j_D jm_LP_writeHunk 17 (.getfield 40) 3 20 := ⟨by decide +kernel, rfl⟩
theorem d_LP_writeHunk_20 : j_D jm_LP_writeHunk 20 (.getfield 104) 3 23 := ⟨by decide +kernel, rfl⟩
theorem d_LP_writeHunk_23 : j_D jm_LP_writeHunk 23 (.getfield 85) 3 26 := ⟨by decide +kernel, rfl⟩
theorem d_LP_writeHunk_26 : j_D jm_LP_writeHunk 26 (.aload_n 0) 1 27 := ⟨by decide +kernel, rfl⟩
theorem d_LP_writeHunk_27 : j_D jm_LP_writeHunk 27 (.getfield 57) 3 30 := ⟨by decide +kernel, rfl⟩
theorem d_LP_writeHunk_30 : j_D jm_LP_writeHunk 30 (.iload_n 2) 1 31 := ⟨by decide +kernel, rfl⟩
theorem d_LP_writeHunk_31 : j_D jm_LP_writeHunk 31 .aaload 1 32 := ⟨by decide +kernel, rfl⟩
theorem d_LP_writeHunk_32 : j_D jm_LP_writeHunk 32 (.getfield 131) 3 35 := ⟨by decide +kernel, rfl⟩
theorem d_LP_writeHunk_35 : j_D jm_LP_writeHunk 35 .isub 1 36 := ⟨by decide +kernel, rfl⟩
theorem d_LP_writeHunk_36 : j_D jm_LP_writeHunk 36 (.invokestatic 145) 3 39 := ⟨by decide +kernel, rfl⟩
theorem d_LP_writeHunk_39 : j_D jm_LP_writeHunk 39 (.istore 5) 2 41 := ⟨by decide +kernel, rfl⟩
theorem d_LP_writeHunk_41 : j_D jm_LP_writeHunk 41 (.aload_n 0) 1 42 := ⟨by decide +kernel, rfl⟩
theorem d_LP_writeHunk_42 : j_D jm_LP_writeHunk 42 (.getfield 57) 3 45 := ⟨by decide +kernel, rfl⟩
theorem d_LP_writeHunk_45 : j_D jm_LP_writeHunk 45 (.iload_n 1) 1 46 := ⟨by decide +kernel, rfl⟩
theorem d_LP_writeHunk_46 : j_D jm_LP_writeHunk 46 .aaload 1 47 := ⟨by decide +kernel, rfl⟩
theorem d_LP_writeHunk_47 : j_D jm_LP_writeHunk 47 (.getfield 127) 3 50 := ⟨by decide +kernel, rfl⟩
theorem d_LP_writeHunk_50 : j_D jm_LP_writeHunk 50 (.iload 4) 2 52 := ⟨by decide +kernel, rfl⟩
theorem d_LP_writeHunk_52 : j_D jm_LP_writeHunk 52 .isub 1 53 := ⟨by decide +kernel, rfl⟩
theorem d_LP_writeHunk_53 : j_D jm_LP_writeHunk 53 (.istore 6) 2 55 := ⟨by decide +kernel, rfl⟩
theorem d_LP_writeHunk_55 : j_D jm_LP_writeHunk 55 (.aload_n 0) 1 56 := ⟨by decide +kernel, rfl⟩
theorem d_LP_writeHunk_56 : j_D jm_LP_writeHunk 56 (.getfield 57) 3 59 := ⟨by decide +kernel, rfl⟩
theorem d_LP_writeHunk_59 : j_D jm_LP_writeHunk 59 (.iload_n 1) 1 60 := ⟨by decide +kernel, rfl⟩
theorem d_LP_writeHunk_60 : j_D jm_LP_writeHunk 60 .aaload 1 61 := ⟨by decide +kernel, rfl⟩
theorem d_LP_writeHunk_61 : j_D jm_LP_writeHunk 61 (.getfield 129) 3 64 := ⟨by decide +kernel, rfl⟩
theorem d_LP_writeHunk_64 : j_D jm_LP_writeHunk 64 (.iload 4) 2 66 := ⟨by decide +kernel, rfl⟩
theorem d_LP_writeHunk_66 : j_D jm_LP_writeHunk 66 .isub 1 67 := ⟨by decide +kernel, rfl⟩
theorem d_LP_writeHunk_67 : j_D jm_LP_writeHunk 67 (.istore 7) 2 69 := ⟨by decide +kernel, rfl⟩
theorem d_LP_writeHunk_69 : j_D jm_LP_writeHunk 69 (.aload_n 0) 1 70 := ⟨by decide +kernel, rfl⟩
theorem d_LP_writeHunk_70 : j_D jm_LP_writeHunk 70 (.getfield 57) 3 73 := ⟨by decide +kernel, rfl⟩
theorem d_LP_writeHunk_73 : j_D jm_LP_writeHunk 73 (.iload_n 2) 1 74 := ⟨by decide +kernel, rfl⟩
theorem d_LP_writeHunk_74 : j_D jm_LP_writeHunk 74 .aaload 1 75 := ⟨by decide +kernel, rfl⟩
theorem d_LP_writeHunk_75 : j_D jm_LP_writeHunk 75 (.getfield 131) 3 78 := ⟨by decide +kernel, rfl⟩
theorem d_LP_writeHunk_78 : j_D jm_LP_writeHunk 78 (.iload 5) 2 80 := ⟨by decide +kernel, rfl⟩
theorem d_LP_writeHunk_80 : j_D jm_LP_writeHunk 80 .iadd 1 81 := ⟨by decide +kernel, rfl⟩
theorem d_LP_writeHunk_81 : j_D jm_LP_writeHunk 81 (.istore 8) 2 83 := ⟨by decide +kernel, rfl⟩
theorem d_LP_writeHunk_83 : j_D jm_LP_writeHunk 83 (.aload_n 0) 1 84 := ⟨by decide +kernel, rfl⟩
theorem d_LP_writeHunk_84 : j_D jm_LP_writeHunk 84 (.getfield 64) 3 87 := ⟨by decide +kernel, rfl⟩
theorem d_LP_writeHunk_87 : j_D jm_LP_writeHunk 87 (.bipush 64) 2 89 := ⟨by decide +kernel, rfl⟩
theorem d_LP_writeHunk_89 : j_D jm_LP_writeHunk 89 (.invokevirtual 151) 3 92 := ⟨by decide +kernel, rfl⟩
theorem d_LP_writeHunk_92 : j_D jm_LP_writeHunk 92 (.aload_n 0) 1 93 := ⟨by decide +kernel, rfl⟩
theorem d_LP_writeHunk_93 : j_D jm_LP_writeHunk 93 (.getfield 64) 3 96 := ⟨by decide +kernel, rfl⟩
theorem d_LP_writeHunk_96 : j_D jm_LP_writeHunk 96 (.iload 6) 2 98 := ⟨by decide +kernel, rfl⟩
theorem d_LP_writeHunk_98 : j_D jm_LP_writeHunk 98 (.invokevirtual 154) 3 101 := ⟨by decide +kernel, rfl⟩
theorem d_LP_writeHunk_101 : j_D jm_LP_writeHunk 101 (.aload_n 0) 1 102 := ⟨by decide +kernel, rfl⟩
theorem d_LP_writeHunk_102 : j_D jm_LP_writeHunk 102 (.getfield 64) 3 105 := ⟨by decide +kernel, rfl⟩
theorem d_LP_writeHunk_105 : j_D jm_LP_writeHunk 105 (.bipush 44) 2 107 := ⟨by decide +kernel, rfl⟩
theorem d_LP_writeHunk_107 : j_D jm_LP_writeHunk 107 (.invokevirtual 151) 3 110 := ⟨by decide +kernel, rfl⟩
theorem d_LP_writeHunk_110 : j_D jm_LP_writeHunk 110 (.aload_n 0) 1 111 := ⟨by decide +kernel, rfl⟩
theorem d_LP_writeHunk_111 : j_D jm_LP_writeHunk 111 (.getfield 64) 3 114 := ⟨by decide +kernel, rfl⟩
theorem d_LP_writeHunk_114 : j_D jm_LP_writeHunk 114 (.iload 8) 2 116 := ⟨by decide +kernel, rfl⟩
theorem d_LP_writeHunk_116 : j_D jm_LP_writeHunk 116 (.iload 6) 2 118 := ⟨by decide +kernel, rfl⟩
theorem d_LP_writeHunk_118 : j_D jm_LP_writeHunk 118 .isub 1 119 := ⟨by decide +kernel, rfl⟩
theorem d_LP_writeHunk_119 : j_D jm_LP_writeHunk 119 (.invokevirtual 154) 3 122 := ⟨by decide +kernel, rfl⟩
theorem d_LP_writeHunk_122 : j_D jm_LP_writeHunk 122 (.aload_n 0) 1 123 := ⟨by decide +kernel, rfl⟩
theorem d_LP_writeHunk_123 : j_D jm_LP_writeHunk 123 (.getfield 64) 3 126 := ⟨by decide +kernel, rfl⟩
theorem d_LP_writeHunk_126 : j_D jm_LP_writeHunk 126 (.bipush 32) 2 128 := ⟨by decide +kernel, rfl⟩
theorem d_LP_writeHunk_128 : j_D jm_LP_writeHunk 128 (.invokevirtual 151) 3 131 := ⟨by decide +kernel, rfl⟩
theorem d_LP_writeHunk_131 : j_D jm_LP_writeHunk 131 (.aload_n 0) 1 132 := ⟨by decide +kernel, rfl⟩
theorem d_LP_writeHunk_132 : j_D jm_LP_writeHunk 132 (.getfield 64) 3 135 := ⟨by decide +kernel, rfl⟩
theorem d_LP_writeHunk_135 : j_D jm_LP_writeHunk 135 (.iload 7) 2 137 := ⟨by decide +kernel, rfl⟩
theorem d_LP_writeHunk_137 : j_D jm_LP_writeHunk 137 (.invokevirtual 154) 3 140 := ⟨by decide +kernel, rfl⟩
theorem d_LP_writeHunk_140 : j_D jm_LP_writeHunk 140 (.aload_n 0) 1 141 := ⟨by decide +kernel, rfl⟩
theorem d_LP_writeHunk_141 : j_D jm_LP_writeHunk 141 (.getfield 64) 3 144 := ⟨by decide +kernel, rfl⟩
theorem d_LP_writeHunk_144 : j_D jm_LP_writeHunk 144 (.bipush 44) 2 146 := ⟨by decide +kernel, rfl⟩
theorem d_LP_writeHunk_146 : j_D jm_LP_writeHunk 146 (.invokevirtual 151) 3 149 := ⟨by decide +kernel, rfl⟩
theorem d_LP_writeHunk_149 : j_D jm_LP_writeHunk 149 (.aload_n 0) 1 150 := ⟨by decide +kernel, rfl⟩
theorem d_LP_writeHunk_150 : j_D jm_LP_writeHunk 150 (.getfield 64) 3 153 := ⟨by decide +kernel, rfl⟩
theorem d_LP_writeHunk_153 : j_D jm_LP_writeHunk 153 (.aload_n 0) 1 154 := ⟨by decide +kernel, rfl⟩
theorem d_LP_writeHunk_154 : j_D jm_LP_writeHunk 154 (.getfield 57) 3 157 := ⟨by decide +kernel, rfl⟩
theorem d_LP_writeHunk_157 : j_D jm_LP_writeHunk 157 (.iload_n 2) 1 158 := ⟨by decide +kernel, rfl⟩
theorem d_LP_writeHunk_158 : j_D jm_LP_writeHunk 158 .aaload 1 159 := ⟨by decide +kernel, rfl⟩
theorem d_LP_writeHunk_159 : j_D jm_LP_writeHunk 159 (.getfield 134) 3 162 := ⟨by decide +kernel, rfl⟩
theorem d_LP_writeHunk_162 : j_D jm_LP_writeHunk 162 (.iload 5) 2 164 := ⟨by decide +kernel, rfl⟩
theorem d_LP_writeHunk_164 : j_D jm_LP_writeHunk 164 .iadd 1 165 := ⟨by decide +kernel, rfl⟩
theorem d_LP_writeHunk_165 : j_D jm_LP_writeHunk 165 (.iload 7) 2 167 := ⟨by decide +kernel, rfl⟩
theorem d_LP_writeHunk_167 : j_D jm_LP_writeHunk 167 .isub 1 168 := ⟨by decide +kernel, rfl⟩
theorem d_LP_writeHunk_168 : j_D jm_LP_writeHunk 168 (.invokevirtual 154) 3 171 := ⟨by decide +kernel, rfl⟩
theorem d_LP_writeHunk_171 : j_D jm_LP_writeHunk 171 (.aload_n 0) 1 172 := ⟨by decide +kernel, rfl⟩
theorem d_LP_writeHunk_172 : j_D jm_LP_writeHunk 172 (.getfield 64) 3 175 := ⟨by decide +kernel, rfl⟩
theorem d_LP_writeHunk_175 : j_D jm_LP_writeHunk 175 (.bipush 10) 2 177 := ⟨by decide +kernel, rfl⟩
theorem d_LP_writeHunk_177 : j_D jm_LP_writeHunk 177 (.invokevirtual 151) 3 180 := ⟨by decide +kernel, rfl⟩
theorem d_LP_writeHunk_180 : j_D jm_LP_writeHunk 180 (.iload_n 1) 1 181 := ⟨by decide +kernel, rfl⟩
theorem d_LP_writeHunk_181 : j_D jm_LP_writeHunk 181 (.istore 9) 2 183 := ⟨by decide +kernel, rfl⟩
theorem d_LP_writeHunk_183 : j_D jm_LP_writeHunk 183 (.iload 9) 2 185 := ⟨by decide +kernel, rfl⟩
theorem d_LP_writeHunk_185 : j_D jm_LP_writeHunk 185 (.iload_n 2) 1 186 := ⟨by decide +kernel, rfl⟩
theorem d_LP_writeHunk_186 : j_E jm_LP_writeHunk 186 (.if_icmp .gt) 91 189 277 := ⟨by decide +kernel, rfl, by decide⟩
theorem d_LP_writeHunk_189 : j_D jm_LP_writeHunk 189 (.aload_n 0) 1 190 := ⟨by decide +kernel, rfl⟩
theorem d_LP_writeHunk_190 : j_D jm_LP_writeHunk 190 (.getfield 57) 3 193 := ⟨by decide +kernel, rfl⟩
theorem d_LP_writeHunk_193 : j_D jm_LP_writeHunk 193 (.iload 9) 2 195 := ⟨by decide +kernel, rfl⟩
theorem d_LP_writeHunk_195 : j_D jm_LP_writeHunk 195 .aaload 1 196 := ⟨by decide +kernel, rfl⟩
theorem d_LP_writeHunk_196 : j_D jm_LP_writeHunk 196 (.astore 10) 2 198 := ⟨by decide +kernel, rfl⟩
theorem d_LP_writeHunk_198 : j_D jm_LP_writeHunk 198 (.aload_n 0) 1 199 := ⟨by decide +kernel, rfl⟩
theorem d_LP_writeHunk_199 : j_D jm_LP_writeHunk 199 (.bipush 32) 2 201 := ⟨by decide +kernel, rfl⟩
theorem d_LP_writeHunk_201 : j_D jm_LP_writeHunk 201 (.aload_n 0) 1 202 := ⟨by decide +kernel, rfl⟩
theorem d_LP_writeHunk_202 : j_D jm_LP_writeHunk 202 (.getfield 40) 3 205 := ⟨by decide +kernel, rfl⟩
theorem d_LP_writeHunk_205 : j_D jm_LP_writeHunk 205 (.getfield 104) 3 208 := ⟨by decide +kernel, rfl⟩
theorem d_LP_writeHunk_208 : j_D jm_LP_writeHunk 208 (.iload 6) 2 210 := ⟨by decide +kernel, rfl⟩
theorem d_LP_writeHunk_210 : j_D jm_LP_writeHunk 210 (.aload 10) 2 212 := ⟨by decide +kernel, rfl⟩
theorem d_LP_writeHunk_212 : j_D jm_LP_writeHunk 212 (.getfield 127) 3 215 := ⟨by decide +kernel, rfl⟩
theorem d_LP_writeHunk_215 : j_D jm_LP_writeHunk 215 (.invokevirtual 157) 3 218 := ⟨by decide +kernel, rfl⟩
theorem d_LP_writeHunk_218 : j_D jm_LP_writeHunk 218 (.aload_n 0) 1 219 := ⟨by decide +kernel, rfl⟩
theorem d_LP_writeHunk_219 : j_D jm_LP_writeHunk 219 (.bipush 45) 2 221 := ⟨by decide +kernel, rfl⟩
theorem d_LP_writeHunk_221 : j_D jm_LP_writeHunk 221 (.aload_n 0) 1 222 := ⟨by decide +kernel, rfl⟩
theorem d_LP_writeHunk_222 : j_D jm_LP_writeHunk 222 (.getfield 40) 3 225 := ⟨by decide +kernel, rfl⟩
theorem d_LP_writeHunk_225 : j_D jm_LP_writeHunk 225 (.getfield 104) 3 228 := ⟨by decide +kernel, rfl⟩
theorem d_LP_writeHunk_228 : j_D jm_LP_writeHunk 228 (.aload 10) 2 230 := ⟨by decide +kernel, rfl⟩
theorem d_LP_writeHunk_230 : j_D jm_LP_writeHunk 230 (.getfield 127) 3 233 := ⟨by decide +kernel, rfl⟩
theorem d_LP_writeHunk_233 : j_D jm_LP_writeHunk 233 (.aload 10) 2 235 := ⟨by decide +kernel, rfl⟩
theorem d_LP_writeHunk_235 : j_D jm_LP_writeHunk 235 (.getfield 131) 3 238 := ⟨by decide +kernel, rfl⟩
theorem d_LP_writeHunk_238 : j_D jm_LP_writeHunk 238 (.invokevirtual 157) 3 241 := ⟨by decide +kernel, rfl⟩
theorem d_LP_writeHunk_241 : j_D jm_LP_writeHunk 241 (.aload_n 0) 1 242 := ⟨by decide +kernel, rfl⟩
theorem d_LP_writeHunk_242 : j_D jm_LP_writeHunk 242 (.bipush 43) 2 244 := ⟨by decide +kernel, rfl⟩
theorem d_LP_writeHunk_244 : j_D jm_LP_writeHunk 244 (.aload_n 0) 1 245 := ⟨by decide +kernel, rfl⟩
theorem d_LP_writeHunk_245 : j_D jm_LP_writeHunk 245 (.getfield 40) 3 248 := ⟨by decide +kernel, rfl⟩
theorem d_LP_writeHunk_248 : j_D jm_LP_writeHunk 248 (.getfield 107) 3 251 := ⟨by decide +kernel, rfl⟩
theorem d_LP_writeHunk_251 : j_D jm_LP_writeHunk 251 (.aload 10) 2 253 := ⟨by decide +kernel, rfl⟩
theorem d_LP_writeHunk_253 : j_D jm_LP_writeHunk 253 (.getfield 129) 3 256 := ⟨by decide +kernel, rfl⟩
theorem d_LP_writeHunk_256 : j_D jm_LP_writeHunk 256 (.aload 10) 2 258 := ⟨by decide +kernel, rfl⟩
theorem d_LP_writeHunk_258 : j_D jm_LP_writeHunk 258 (.getfield 134) 3 261 := ⟨by decide +kernel, rfl⟩
theorem d_LP_writeHunk_261 : j_D jm_LP_writeHunk 261 (.invokevirtual 157) 3 264 := ⟨by decide +kernel, rfl⟩
theorem d_LP_writeHunk_264 : j_D jm_LP_writeHunk 264 (.aload 10) 2 266 := ⟨by decide +kernel, rfl⟩
theorem d_LP_writeHunk_266 : j_D jm_LP_writeHunk 266 (.getfield 131) 3 269 := ⟨by decide +kernel, rfl⟩
theorem d_LP_writeHunk_269 : j_D jm_LP_writeHunk 269 (.istore 6) 2 271 := ⟨by decide +kernel, rfl⟩
theorem d_LP_writeHunk_271 : j_D jm_LP_writeHunk 271 (.iinc 9 1) 3 274 := ⟨by decide +kernel, rfl⟩
theorem d_LP_writeHunk_274 : j_E jm_LP_writeHunk 274 .goto (-91) 277 183 := ⟨by decide +kernel, rfl, by decide⟩
theorem d_LP_writeHunk_277 : j_D jm_LP_writeHunk 277 (.aload_n 0) 1 278 := ⟨by decide +kernel, rfl⟩
theorem d_LP_writeHunk_278 : j_D jm_LP_writeHunk 278 (.bipush 32) 2 280 := ⟨by decide +kernel, rfl⟩
theorem d_LP_writeHunk_280 : j_D jm_LP_writeHunk 280 (.aload_n 0) 1 281 := ⟨by decide +kernel, rfl⟩
theorem d_LP_writeHunk_281 : j_D jm_LP_writeHunk 281 (.getfield 40) 3 284 := ⟨by decide +kernel, rfl⟩
theorem d_LP_writeHunk_284 : j_D jm_LP_writeHunk 284 (.getfield 104) 3 287 := ⟨by decide +kernel, rfl⟩
theorem d_LP_writeHunk_287 : j_D jm_LP_writeHunk 287 (.iload 6) 2 289 := ⟨by decide +kernel, rfl⟩
theorem d_LP_writeHunk_289 : j_D jm_LP_writeHunk 289 (.iload 8) 2 291 := ⟨by decide +kernel, rfl⟩
theorem d_LP_writeHunk_291 : j_D jm_LP_writeHunk 291 (.invokevirtual 157) 3 294 := ⟨by decide +kernel, rfl⟩
theorem d_LP_writeHunk_294 : j_D jm_LP_writeHunk 294 .return_ 1 295 := ⟨by decide +kernel, rfl⟩
theorem d_LP_rows_0 : j_D jm_LP_rows 0 (.iload_n 3) 1 1 := ⟨by decide +kernel, rfl⟩
theorem d_LP_rows_1 : j_D jm_LP_rows 1 (.istore 5) 2 3 := ⟨by decide +kernel, rfl⟩
theorem d_LP_rows_3 : j_D jm_LP_rows 3 (.iload 5) 2 5 := ⟨by decide +kernel, rfl⟩
theorem d_LP_rows_5 : j_D jm_LP_rows 5 (.iload 4) 2 7 := ⟨by decide +kernel, rfl⟩
theorem d_LP_rows_7 : j_E jm_LP_rows 7 (.if_icmp .ge) 40 10 47 := ⟨by decide +kernel, rfl, by decide⟩
theorem d_LP_rows_10 : j_D jm_LP_rows 10 (.aload_n 0) 1 11 := ⟨by decide +kernel, rfl⟩
theorem d_LP_rows_11 : j_D jm_LP_rows 11 (.getfield 64) 3 14 := ⟨by decide +kernel, rfl⟩
theorem d_LP_rows_14 : j_D jm_LP_rows 14 (.iload_n 1) 1 15 := ⟨by decide +kernel, rfl⟩
theorem d_LP_rows_15 : j_D jm_LP_rows 15 (.invokevirtual 151) 3 18 := ⟨by decide +kernel, rfl⟩
theorem d_LP_rows_18 : j_D jm_LP_rows 18 (.aload_n 0) 1 19 := ⟨by decide +kernel, rfl⟩
theorem d_LP_rows_19 : j_D jm_LP_rows 19 (.getfield 64) 3 22 := ⟨by decide +kernel, rfl⟩
theorem d_LP_rows_22 : j_D jm_LP_rows 22 (.aload_n 2) 1 23 := ⟨by decide +kernel, rfl⟩
theorem d_LP_rows_23 : j_D jm_LP_rows 23 (.getfield 92) 3 26 := ⟨by decide +kernel, rfl⟩
theorem d_LP_rows_26 : j_D jm_LP_rows 26 (.iload 5) 2 28 := ⟨by decide +kernel, rfl⟩
theorem d_LP_rows_28 : j_D jm_LP_rows 28 .baload 1 29 := ⟨by decide +kernel, rfl⟩
theorem d_LP_rows_29 : j_D jm_LP_rows 29 (.invokevirtual 151) 3 32 := ⟨by decide +kernel, rfl⟩
theorem d_LP_rows_32 : j_D jm_LP_rows 32 (.aload_n 0) 1 33 := ⟨by decide +kernel, rfl⟩
theorem d_LP_rows_33 : j_D jm_LP_rows 33 (.getfield 64) 3 36 := ⟨by decide +kernel, rfl⟩
theorem d_LP_rows_36 : j_D jm_LP_rows 36 (.bipush 10) 2 38 := ⟨by decide +kernel, rfl⟩
theorem d_LP_rows_38 : j_D jm_LP_rows 38 (.invokevirtual 151) 3 41 := ⟨by decide +kernel, rfl⟩
theorem d_LP_rows_41 : j_D jm_LP_rows 41 (.iinc 5 1) 3 44 := ⟨by decide +kernel, rfl⟩
theorem d_LP_rows_44 : j_E jm_LP_rows 44 .goto (-41) 47 3 := ⟨by decide +kernel, rfl, by decide⟩
theorem d_LP_rows_47 : j_D jm_LP_rows 47 .return_ 1 48 := ⟨by decide +kernel, rfl⟩
theorem d_LP_type_0 : j_D jm_LP_type 0 (.iload_n 3) 1 1 := ⟨by decide +kernel, rfl⟩
theorem d_LP_type_1 : j_D jm_LP_type 1 (.iconst 1) 1 2 := ⟨by decide +kernel, rfl⟩
theorem d_LP_type_2 : j_D jm_LP_type 2 (.bipush 8) 2 4 := ⟨by decide +kernel, rfl⟩
theorem d_LP_type_4 : j_D jm_LP_type 4 (.invokestatic 1) 3 7 := ⟨by decide +kernel, rfl⟩
theorem d_LP_type_7 : j_E jm_LP_type 7 (.ifCond .ne) 5 10 12 := ⟨by decide +kernel, rfl, by decide⟩
theorem d_LP_type_10 : j_D jm_LP_type 10 (.iconst (-1)) 1 11 := ⟨by decide +kernel, rfl⟩
theorem d_LP_type_11 : j_D jm_LP_type 11 .ireturn 1 12 := ⟨by decide +kernel, rfl⟩
theorem d_LP_type_12 : j_D jm_LP_type 12 (.aload_n 0) 1 13 := ⟨by decide +kernel, rfl⟩
theorem d_LP_type_13 : j_D jm_LP_type 13 (.getfield 64) 3 16 := ⟨by decide +kernel, rfl⟩
theorem d_LP_type_16 : j_D jm_LP_type 16 (.getfield 140) 3 19 := ⟨by decide +kernel, rfl⟩
theorem d_LP_type_19 : j_D jm_LP_type 19 (.iload_n 3) 1 20 := ⟨by decide +kernel, rfl⟩
theorem d_LP_type_20 : j_D jm_LP_type 20 .iadd 1 21 := ⟨by decide +kernel, rfl⟩
theorem d_LP_type_21 : j_D jm_LP_type 21 (.sipush 900) 3 24 := ⟨by decide +kernel, rfl⟩
theorem d_LP_type_24 : j_E jm_LP_type 24 (.if_icmp .le) 6 27 30 := ⟨by decide +kernel, rfl, by decide⟩
theorem d_LP_type_27 : j_D jm_LP_type 27 (.bipush (-2)) 2 29 := ⟨by decide +kernel, rfl⟩
theorem d_LP_type_29 : j_D jm_LP_type 29 .ireturn 1 30 := ⟨by decide +kernel, rfl⟩
theorem d_LP_type_30 : j_D jm_LP_type 30 (.iload_n 3) 1 31 := ⟨by decide +kernel, rfl⟩
theorem d_LP_type_31 : j_D jm_LP_type 31 (.iconst 1) 1 32 := ⟨by decide +kernel, rfl⟩
theorem d_LP_type_32 : j_D jm_LP_type 32 .isub 1 33 := ⟨by decide +kernel, rfl⟩
theorem d_LP_type_33 : j_D jm_LP_type 33 (.istore 4) 2 35 := ⟨by decide +kernel, rfl⟩
theorem d_LP_type_35 : j_D jm_LP_type 35 (.iload 4) 2 37 := ⟨by decide +kernel, rfl⟩
theorem d_LP_type_37 : j_E jm_LP_type 37 (.ifCond .lt) 24 40 61 := ⟨by decide +kernel, rfl, by decide⟩
theorem d_LP_type_40 : j_D jm_LP_type 40 (.aload_n 0) 1 41 := ⟨by decide +kernel, rfl⟩
theorem d_LP_type_41 : j_D jm_LP_type 41 (.getfield 64) 3 44 := ⟨by decide +kernel, rfl⟩
theorem d_LP_type_44 : j_D jm_LP_type 44 (.lload_n 1) 1 45 := ⟨by decide +kernel, rfl⟩
theorem d_LP_type_45 : j_D jm_LP_type 45 (.bipush 8) 2 47 := ⟨by decide +kernel, rfl⟩
theorem d_LP_type_47 : j_D jm_LP_type 47 (.iload 4) 2 49 := ⟨by decide +kernel, rfl⟩
theorem d_LP_type_49 : j_D jm_LP_type 49 .imul 1 50 := ⟨by decide +kernel, rfl⟩
theorem d_LP_type_50 : j_D jm_LP_type 50 .lshr 1 51 := ⟨by decide +kernel, rfl⟩
theorem d_LP_type_51 : j_D jm_LP_type 51 .l2i 1 52 := ⟨by decide +kernel, rfl⟩
theorem d_LP_type_52 : j_D jm_LP_type 52 (.invokevirtual 151) 3 55 := ⟨by decide +kernel, rfl⟩
theorem d_LP_type_55 : j_D jm_LP_type 55 (.iinc 4 (-1)) 3 58 := ⟨by decide +kernel, rfl⟩
theorem d_LP_type_58 : j_E jm_LP_type 58 .goto (-23) 61 35 := ⟨by decide +kernel, rfl, by decide⟩
theorem d_LP_type_61 : j_D jm_LP_type 61 (.aload_n 0) 1 62 := ⟨by decide +kernel, rfl⟩
theorem d_LP_type_62 : j_D jm_LP_type 62 (.getfield 64) 3 65 := ⟨by decide +kernel, rfl⟩
theorem d_LP_type_65 : j_D jm_LP_type 65 (.getfield 140) 3 68 := ⟨by decide +kernel, rfl⟩
theorem d_LP_type_68 : j_D jm_LP_type 68 .ireturn 1 69 := ⟨by decide +kernel, rfl⟩
theorem d_LP_wipe_0 : j_D jm_LP_wipe 0 (.aload_n 0) 1 1 := ⟨by decide +kernel, rfl⟩
theorem d_LP_wipe_1 : j_D jm_LP_wipe 1 (.getfield 64) 3 4 := ⟨by decide +kernel, rfl⟩
theorem d_LP_wipe_4 : j_D jm_LP_wipe 4 (.getfield 140) 3 7 := ⟨by decide +kernel, rfl⟩
theorem d_LP_wipe_7 : j_D jm_LP_wipe 7 (.istore_n 1) 1 8 := ⟨by decide +kernel, rfl⟩
theorem d_LP_wipe_8 : j_D jm_LP_wipe 8 (.aload_n 0) 1 9 := ⟨by decide +kernel, rfl⟩
theorem d_LP_wipe_9 : j_D jm_LP_wipe 9 (.getfield 64) 3 12 := ⟨by decide +kernel, rfl⟩
theorem d_LP_wipe_12 : j_D jm_LP_wipe 12 (.iconst 0) 1 13 := ⟨by decide +kernel, rfl⟩
theorem d_LP_wipe_13 : j_D jm_LP_wipe 13 (.putfield 140) 3 16 := ⟨by decide +kernel, rfl⟩
theorem d_LP_wipe_16 : j_D jm_LP_wipe 16 (.iload_n 1) 1 17 := ⟨by decide +kernel, rfl⟩
theorem d_LP_wipe_17 : j_D jm_LP_wipe 17 .ireturn 1 18 := ⟨by decide +kernel, rfl⟩
theorem d_LP_character_0 : j_D jm_LP_character 0 (.iload_n 1) 1 1 := ⟨by decide +kernel, rfl⟩
theorem d_LP_character_1 : j_D jm_LP_character 1 (.iconst 0) 1 2 := ⟨by decide +kernel, rfl⟩
theorem d_LP_character_2 : j_D jm_LP_character 2 (.aload_n 0) 1 3 := ⟨by decide +kernel, rfl⟩
theorem d_LP_character_3 : j_D jm_LP_character 3 (.getfield 64) 3 6 := ⟨by decide +kernel, rfl⟩
theorem d_LP_character_6 : j_D jm_LP_character 6 (.getfield 140) 3 9 := ⟨by decide +kernel, rfl⟩
theorem d_LP_character_9 : j_D jm_LP_character 9 (.iconst 1) 1 10 := ⟨by decide +kernel, rfl⟩
theorem d_LP_character_10 : j_D jm_LP_character 10 .isub 1 11 := ⟨by decide +kernel, rfl⟩
theorem d_LP_character_11 : j_D jm_LP_character 11 (.invokestatic 1) 3 14 := ⟨by decide +kernel, rfl⟩
theorem d_LP_character_14 : j_E jm_LP_character 14 (.ifCond .eq) 19 17 33 := ⟨by decide +kernel, rfl, by decide⟩
theorem d_LP_character_17 : j_D jm_LP_character 17 (.aload_n 0) 1 18 := ⟨by decide +kernel, rfl⟩
theorem d_LP_character_18 : j_D jm_LP_character 18 (.getfield 64) 3 21 := ⟨by decide +kernel, rfl⟩
theorem d_LP_character_21 : j_D jm_LP_character 21 (.getfield 161) 3 24 := ⟨by decide +kernel, rfl⟩
theorem d_LP_character_24 : j_D jm_LP_character 24 (.iload_n 1) 1 25 := ⟨by decide +kernel, rfl⟩
theorem d_LP_character_25 : j_D jm_LP_character 25 .baload 1 26 := ⟨by decide +kernel, rfl⟩
theorem d_LP_character_26 : j_D jm_LP_character 26 (.sipush 255) 3 29 := ⟨by decide +kernel, rfl⟩
theorem d_LP_character_29 : j_D jm_LP_character 29 .iand 1 30 := ⟨by decide +kernel, rfl⟩
theorem d_LP_character_30 : j_E jm_LP_character 30 .goto 5 33 35 := ⟨by decide +kernel, rfl, by decide⟩
theorem d_LP_character_33 : j_D jm_LP_character 33 (.bipush (-3)) 2 35 := ⟨by decide +kernel, rfl⟩
theorem d_LP_character_35 : j_D jm_LP_character 35 .ireturn 1 36 := ⟨by decide +kernel, rfl⟩
theorem lc_LP_isText : j_Lc jm_LP_isText 1 := ⟨by decide +kernel, by decide +kernel, by decide, by decide +kernel, by decide⟩
theorem c_LP_78 : j_Ls "LinePatcher" 78 jm_LP_isText 1 := ⟨Or.inl (by decide +kernel), by decide +kernel, rfl, lc_LP_isText⟩
theorem c_LP_82 : j_Ls "LinePatcher" 82 jm_LP_isLetter 1 := ⟨Or.inl (by decide +kernel), by decide +kernel, rfl, lc_LP_isLetter⟩
theorem f_LP_15 : j_F "LinePatcher" 15 0 0 0 true := ⟨rfl, _, "LinePatcher", rfl, by decide, rfl, Or.inl (by decide +kernel), Or.inl rfl⟩
theorem f_LP_85 : j_F "LinePatcher" 85 1 1 1 false := ⟨rfl, _, "LinePatcher$Text", rfl, by decide, rfl, Or.inr ⟨"LinePatcher", by decide +kernel⟩, Or.inl rfl⟩
theorem c_LP_89 : j_Lv "LinePatcher" 89 1 jm_Tx_add 1 := ⟨by decide +kernel, by decide +kernel, ⟨_, rfl, by decide +kernel⟩, lc_Tx_add⟩
theorem f_LP_92 : j_F "LinePatcher" 92 1 0 0 true := ⟨rfl, _, "LinePatcher$Text", rfl, by decide, rfl, Or.inr ⟨"LinePatcher", by decide +kernel⟩, Or.inl rfl⟩
theorem lc_Tx_isPlain : j_Lc jm_Tx_isPlain 0 := ⟨by decide +kernel, by decide +kernel, by decide, by decide +kernel, by decide⟩
theorem c_LP_96 : j_Lv "LinePatcher" 96 1 jm_Tx_isPlain 0 := ⟨by decide +kernel, by decide +kernel, ⟨_, rfl, by decide +kernel⟩, lc_Tx_isPlain⟩
theorem f_LP_40 : j_F "LinePatcher" 40 0 3 3 true := ⟨rfl, _, "LinePatcher", rfl, by decide, rfl, Or.inl (by decide +kernel), Or.inl rfl⟩
theorem lc_Pr_begin : j_Lc jm_Pr_begin 2 := ⟨by decide +kernel, by decide +kernel, by decide, by decide +kernel, by decide⟩
theorem c_LP_100 : j_Lv "LinePatcher" 100 2 jm_Pr_begin 2 := ⟨by decide +kernel, by decide +kernel, ⟨_, rfl, by decide +kernel⟩, lc_Pr_begin⟩
theorem f_LP_33 : j_F "LinePatcher" 33 0 2 2 true := ⟨rfl, _, "LinePatcher", rfl, by decide, rfl, Or.inl (by decide +kernel), Or.inl rfl⟩
theorem f_LP_104 : j_F "LinePatcher" 104 2 0 0 true := ⟨rfl, _, "LinePatcher$Pairing", rfl, by decide, rfl, Or.inr ⟨"LinePatcher", by decide +kernel⟩, Or.inl rfl⟩
theorem f_LP_107 : j_F "LinePatcher" 107 2 1 1 true := ⟨rfl, _, "LinePatcher$Pairing", rfl, by decide, rfl, Or.inr ⟨"LinePatcher", by decide +kernel⟩, Or.inl rfl⟩
theorem f_LP_114 : j_F "LinePatcher" 114 0 7 7 false := ⟨rfl, _, "LinePatcher", rfl, by decide, rfl, Or.inl (by decide +kernel), Or.inl rfl⟩
theorem lc_Pr_changes : j_Lc jm_Pr_changes 0 := ⟨by decide +kernel, by decide +kernel, by decide, by decide +kernel, by decide⟩
theorem c_LP_118 : j_Lv "LinePatcher" 118 2 jm_Pr_changes 0 := ⟨by decide +kernel, by decide +kernel, ⟨_, rfl, by decide +kernel⟩, lc_Pr_changes⟩
theorem f_LP_121 : j_F "LinePatcher" 121 2 2 2 true := ⟨rfl, _, "LinePatcher$Pairing", rfl, by decide, rfl, Or.inr ⟨"LinePatcher", by decide +kernel⟩, Or.inl rfl⟩
theorem f_LP_124 : j_F "LinePatcher" 124 0 9 9 false := ⟨rfl, _, "LinePatcher", rfl, by decide, rfl, Or.inl (by decide +kernel), Or.inl rfl⟩
theorem f_LP_57 : j_F "LinePatcher" 57 0 8 8 true := ⟨rfl, _, "LinePatcher", rfl, by decide, rfl, Or.inl (by decide +kernel), Or.inl rfl⟩
theorem f_LP_127 : j_F "LinePatcher" 127 5 0 0 false := ⟨rfl, _, "LinePatcher$Change", rfl, by decide, rfl, Or.inr ⟨"LinePatcher", by decide +kernel⟩, Or.inl rfl⟩
theorem f_LP_129 : j_F "LinePatcher" 129 5 2 2 false := ⟨rfl, _, "LinePatcher$Change", rfl, by decide, rfl, Or.inr ⟨"LinePatcher", by decide +kernel⟩, Or.inl rfl⟩
theorem f_LP_131 : j_F "LinePatcher" 131 5 1 1 false := ⟨rfl, _, "LinePatcher$Change", rfl, by decide, rfl, Or.inr ⟨"LinePatcher", by decide +kernel⟩, Or.inl rfl⟩
theorem f_LP_134 : j_F "LinePatcher" 134 5 3 3 false := ⟨rfl, _, "LinePatcher$Change", rfl, by decide, rfl, Or.inr ⟨"LinePatcher", by decide +kernel⟩, Or.inl rfl⟩
theorem lc_LP_findChanges : j_Lc jm_LP_findChanges 0 := ⟨by decide +kernel, by decide +kernel, by decide, by decide +kernel, by decide⟩
theorem c_LP_137 : j_Lv "LinePatcher" 137 0 jm_LP_findChanges 0 := ⟨by decide +kernel, by decide +kernel, ⟨_, rfl, by decide +kernel⟩, lc_LP_findChanges⟩
theorem f_LP_64 : j_F "LinePatcher" 64 0 10 10 true := ⟨rfl, _, "LinePatcher", rfl, by decide, rfl, Or.inl (by decide +kernel), Or.inl rfl⟩
theorem f_LP_140 : j_F "LinePatcher" 140 7 1 1 false := ⟨rfl, _, "LinePatcher$Paper", rfl, by decide, rfl, Or.inr ⟨"LinePatcher", by decide +kernel⟩, Or.inl rfl⟩
theorem lc_LP_writeHunk : j_Lc jm_LP_writeHunk 3 := ⟨by decide +kernel, by decide +kernel, by decide, by decide +kernel, by decide⟩
theorem c_LP_141 : j_Lv "LinePatcher" 141 0 jm_LP_writeHunk 3 := ⟨by decide +kernel, by decide +kernel, ⟨_, rfl, by decide +kernel⟩, lc_LP_writeHunk⟩
theorem c_LP_145 : j_Ls "LinePatcher" 145 jm_Ma_min 2 := ⟨Or.inl (by decide +kernel), by decide +kernel, rfl, lc_Ma_min⟩
theorem c_LP_151 : j_Lv "LinePatcher" 151 7 jm_Pp_put 1 := ⟨by decide +kernel, by decide +kernel, ⟨_, rfl, by decide +kernel⟩, lc_Pp_put⟩
theorem lc_Pp_number : j_Lc jm_Pp_number 1 := ⟨by decide +kernel, by decide +kernel, by decide, by decide +kernel, by decide⟩
theorem c_LP_154 : j_Lv "LinePatcher" 154 7 jm_Pp_number 1 := ⟨by decide +kernel, by decide +kernel, ⟨_, rfl, by decide +kernel⟩, lc_Pp_number⟩
theorem lc_LP_rows : j_Lc jm_LP_rows 4 := ⟨by decide +kernel, by decide +kernel, by decide, by decide +kernel, by decide⟩
theorem c_LP_157 : j_Lv "LinePatcher" 157 0 jm_LP_rows 4 := ⟨by decide +kernel, by decide +kernel, ⟨_, rfl, by decide +kernel⟩, lc_LP_rows⟩
theorem f_LP_161 : j_F "LinePatcher" 161 7 0 0 true := ⟨rfl, _, "LinePatcher$Paper", rfl, by decide, rfl, Or.inr ⟨"LinePatcher", by decide +kernel⟩, Or.inl rfl⟩
theorem s_LP_add_0 {G : j_G} {d B S N : Nat} {K : Nat → Option (Nat × Nat)} {M : Nat → Int → Int} {g : Nat → Int → Option Nat} {Q : j_O → j_S → Prop} {a0 : Nat} {x1 x4 : Int} {l2 : Int64} {u3 u5 u6 : j_V} {q : Int → (Nat → Int → Int) → Prop} (hC : j_Ct G jm_LP_isText d 0 0 [ji_ x1] (N, K, M, g) (j_pI N K g q)) (k1 : ∀ z M', q z M' → j_J G jm_LP_add (d + 1) B S 4 [jr_ a0, ji_ x1, jl_ l2, u3, ji_ x4, u5, u6] [ji_ z] (N, K, M', g) Q) : j_J G jm_LP_add (d + 1) B S 0 [jr_ a0, ji_ x1, jl_ l2, u3, ji_ x4, u5, u6] [] (N, K, M, g) Q :=
  j_iload_n d_LP_add_0 rfl <| j_aSI (as := [ji_ x1]) (rest := []) d_LP_add_1 c_LP_78 rfl (Nat.le_of_ble_eq_true rfl) hC k1
theorem s_LP_add_4 {G : j_G} {d B S N : Nat} {K : Nat → Option (Nat × Nat)} {M : Nat → Int → Int} {g : Nat → Int → Option Nat} {Q : j_O → j_S → Prop} {a0 : Nat} {x1 x4 t0 : Int} {l2 : Int64} {u3 u5 u6 : j_V} (r1 : -2147483648 ≤ t0 ∧ t0 ≤ 2147483647 := by omega) (k1 : t0 = 0 → Q (.inl (some (ji_ (-1)))) (N, K, M, g)) (k2 : t0 ≠ 0 → j_J G jm_LP_add d B S 7 [jr_ a0, ji_ x1, jl_ l2, u3, ji_ x4, u5, u6] [] (N, K, M, g) Q) : j_J G jm_LP_add d B S 4 [jr_ a0, ji_ x1, jl_ l2, u3, ji_ x4, u5, u6] [ji_ t0] (N, K, M, g) Q :=
  j_if_eq d_LP_add_4 r1 (fun h => j_iconst d_LP_add_18 <| j_ireturn d_LP_add_19 rfl <| k1 h) k2
theorem s_LP_add_7 {G : j_G} {d B S N : Nat} {K : Nat → Option (Nat × Nat)} {M : Nat → Int → Int} {g : Nat → Int → Option Nat} {Q : j_O → j_S → Prop} {a0 : Nat} {x1 x4 : Int} {l2 : Int64} {u3 u5 u6 : j_V} {q : Int → (Nat → Int → Int) → Prop} (hC : j_Ct G jm_LP_within d 0 0 [ji_ x4, ji_ 1, ji_ 8] (N, K, M, g) (j_pI N K g q)) (k1 : ∀ z M', q z M' → j_J G jm_LP_add (d + 1) B S 15 [jr_ a0, ji_ x1, jl_ l2, u3, ji_ x4, u5, u6] [ji_ z] (N, K, M', g) Q) : j_J G jm_LP_add (d + 1) B S 7 [jr_ a0, ji_ x1, jl_ l2, u3, ji_ x4, u5, u6] [] (N, K, M, g) Q :=
  j_iload d_LP_add_7 rfl <| j_iconst d_LP_add_9 <| j_bipush d_LP_add_10 (by decide) <| j_aSI (as := [ji_ x4, ji_ 1, ji_ 8]) (rest := []) d_LP_add_12 c_LP_1 rfl (Nat.le_of_ble_eq_true rfl) hC k1
theorem s_LP_add_15 {G : j_G} {d B S N : Nat} {K : Nat → Option (Nat × Nat)} {M : Nat → Int → Int} {g : Nat → Int → Option Nat} {Q : j_O → j_S → Prop} {a0 : Nat} {x1 x4 t0 : Int} {l2 : Int64} {u3 u5 u6 : j_V} (r1 : -2147483648 ≤ t0 ∧ t0 ≤ 2147483647 := by omega) (k1 : t0 ≠ 0 → j_J G jm_LP_add d B S 23 [jr_ a0, ji_ x1, jl_ l2, u3, ji_ x4, ji_ 0, u6] [] (N, K, M, g) Q) (k2 : t0 = 0 → Q (.inl (some (ji_ (-1)))) (N, K, M, g)) : j_J G jm_LP_add d B S 15 [jr_ a0, ji_ x1, jl_ l2, u3, ji_ x4, u5, u6] [ji_ t0] (N, K, M, g) Q :=
  j_if_ne d_LP_add_15 r1 (fun h => j_iconst d_LP_add_20 <| j_istore d_LP_add_21 rfl rfl <| k1 h) (fun h => j_iconst d_LP_add_18 <| j_ireturn d_LP_add_19 rfl <| k2 h)
theorem s_LP_add_18 {G : j_G} {d B S N : Nat} {K : Nat → Option (Nat × Nat)} {M : Nat → Int → Int} {g : Nat → Int → Option Nat} {Q : j_O → j_S → Prop} {a0 : Nat} {x1 x4 : Int} {l2 : Int64} {u3 u5 u6 : j_V}  (k1 : Q (.inl (some (ji_ (-1)))) (N, K, M, g)) : j_J G jm_LP_add d B S 18 [jr_ a0, ji_ x1, jl_ l2, u3, ji_ x4, u5, u6] [] (N, K, M, g) Q :=
  j_iconst d_LP_add_18 <| j_ireturn d_LP_add_19 rfl k1
theorem s_LP_add_20 {G : j_G} {d B S N : Nat} {K : Nat → Option (Nat × Nat)} {M : Nat → Int → Int} {g : Nat → Int → Option Nat} {Q : j_O → j_S → Prop} {a0 : Nat} {x1 x4 : Int} {l2 : Int64} {u3 u5 u6 : j_V}  (k1 : j_J G jm_LP_add d B S 23 [jr_ a0, ji_ x1, jl_ l2, u3, ji_ x4, ji_ 0, u6] [] (N, K, M, g) Q) : j_J G jm_LP_add d B S 20 [jr_ a0, ji_ x1, jl_ l2, u3, ji_ x4, u5, u6] [] (N, K, M, g) Q :=
  j_iconst d_LP_add_20 <| j_istore d_LP_add_21 rfl rfl <| k1
theorem s_LP_add_23 {G : j_G} {d B S N : Nat} {K : Nat → Option (Nat × Nat)} {M : Nat → Int → Int} {g : Nat → Int → Option Nat} {Q : j_O → j_S → Prop} {a0 : Nat} {x1 x4 x5 : Int} {l2 : Int64} {u3 u6 : j_V} (r1 : -2147483648 ≤ x5 ∧ x5 ≤ 2147483647 := by omega) (r2 : -2147483648 ≤ x4 ∧ x4 ≤ 2147483647 := by omega) (k1 : x4 ≤ x5 → j_J G jm_LP_add d B S 56 [jr_ a0, ji_ x1, jl_ l2, u3, ji_ x4, ji_ x5, u6] [] (N, K, M, g) Q) (k2 : x5 < x4 → j_J G jm_LP_add d B S 30 [jr_ a0, ji_ x1, jl_ l2, u3, ji_ x4, ji_ x5, u6] [] (N, K, M, g) Q) : j_J G jm_LP_add d B S 23 [jr_ a0, ji_ x1, jl_ l2, u3, ji_ x4, ji_ x5, u6] [] (N, K, M, g) Q :=
  j_iload d_LP_add_23 rfl <| j_iload d_LP_add_25 rfl <| j_icmp_ge d_LP_add_27 r1 r2 k1 k2
theorem s_LP_add_30 {G : j_G} {d B S N : Nat} {K : Nat → Option (Nat × Nat)} {M : Nat → Int → Int} {g : Nat → Int → Option Nat} {Q : j_O → j_S → Prop} {a0 : Nat} {x1 x4 x5 : Int} {l2 : Int64} {u3 u6 : j_V} {q : Int → (Nat → Int → Int) → Prop} (hC : j_Ct G jm_LP_isLetter d 0 0 [ji_ (((l2 >>> ((Int32.ofInt (8 * x5)).toInt64 &&& 63)).toInt32.toInt) % 2 ^ 8)] (N, K, M, g) (j_pI N K g q)) (k1 : ∀ z M', q z M' → j_J G jm_LP_add (d + 1) B S 45 [jr_ a0, ji_ x1, jl_ l2, u3, ji_ x4, ji_ x5, u6] [ji_ z] (N, K, M', g) Q) : j_J G jm_LP_add (d + 1) B S 30 [jr_ a0, ji_ x1, jl_ l2, u3, ji_ x4, ji_ x5, u6] [] (N, K, M, g) Q :=
  j_lload_n d_LP_add_30 rfl <| j_bipush d_LP_add_31 (by decide) <| j_iload d_LP_add_33 rfl <| j_imul d_LP_add_35 <| j_lshr d_LP_add_36 <| j_l2i d_LP_add_37 <| j_sipush d_LP_add_38 (by decide) <| j_iandM 8 d_LP_add_41 (by decide) (by decide) <| j_aSI (as := [ji_ (((l2 >>> ((Int32.ofInt (8 * x5)).toInt64 &&& 63)).toInt32.toInt) % 2 ^ 8)]) (rest := []) d_LP_add_42 c_LP_82 rfl (Nat.le_of_ble_eq_true rfl) hC k1
theorem s_LP_add_45 {G : j_G} {d B S N : Nat} {K : Nat → Option (Nat × Nat)} {M : Nat → Int → Int} {g : Nat → Int → Option Nat} {Q : j_O → j_S → Prop} {a0 : Nat} {x1 x4 x5 t0 : Int} {l2 : Int64} {u3 u6 : j_V} (r1 : -2147483648 ≤ t0 ∧ t0 ≤ 2147483647 := by omega) (k1 : t0 ≠ 0 → j_J G jm_LP_add d B S 23 [jr_ a0, ji_ x1, jl_ l2, u3, ji_ x4, ji_ (x5 + 1), u6] [] (N, K, M, g) Q) (k2 : t0 = 0 → Q (.inl (some (ji_ (-1)))) (N, K, M, g)) : j_J G jm_LP_add d B S 45 [jr_ a0, ji_ x1, jl_ l2, u3, ji_ x4, ji_ x5, u6] [ji_ t0] (N, K, M, g) Q :=
  j_if_ne d_LP_add_45 r1 (fun h => j_iinc d_LP_add_50 rfl rfl rfl <| j_goto d_LP_add_53 <| k1 h) (fun h => j_iconst d_LP_add_48 <| j_ireturn d_LP_add_49 rfl <| k2 h)
theorem s_LP_add_48 {G : j_G} {d B S N : Nat} {K : Nat → Option (Nat × Nat)} {M : Nat → Int → Int} {g : Nat → Int → Option Nat} {Q : j_O → j_S → Prop} {a0 : Nat} {x1 x4 x5 : Int} {l2 : Int64} {u3 u6 : j_V}  (k1 : Q (.inl (some (ji_ (-1)))) (N, K, M, g)) : j_J G jm_LP_add d B S 48 [jr_ a0, ji_ x1, jl_ l2, u3, ji_ x4, ji_ x5, u6] [] (N, K, M, g) Q :=
  j_iconst d_LP_add_48 <| j_ireturn d_LP_add_49 rfl k1
theorem s_LP_add_50 {G : j_G} {d B S N : Nat} {K : Nat → Option (Nat × Nat)} {M : Nat → Int → Int} {g : Nat → Int → Option Nat} {Q : j_O → j_S → Prop} {a0 : Nat} {x1 x4 x5 : Int} {l2 : Int64} {u3 u6 : j_V}  (k1 : j_J G jm_LP_add d B S 23 [jr_ a0, ji_ x1, jl_ l2, u3, ji_ x4, ji_ (x5 + 1), u6] [] (N, K, M, g) Q) : j_J G jm_LP_add d B S 50 [jr_ a0, ji_ x1, jl_ l2, u3, ji_ x4, ji_ x5, u6] [] (N, K, M, g) Q :=
  j_iinc d_LP_add_50 rfl rfl rfl <| j_goto d_LP_add_53 k1
theorem s_LP_add_56 {G : j_G} {d B S N : Nat} {K : Nat → Option (Nat × Nat)} {M : Nat → Int → Int} {g : Nat → Int → Option Nat} {Q : j_O → j_S → Prop} {a0 y1 n2 tg2 y4 : Nat} {x1 x4 x5 : Int} {l2 : Int64} {u3 u6 : j_V} (hk1 : K a0 = some (0, 0)) (hg2 : g a0 0 = some y1) (hk2 : K y1 = some (tg2 + 3, n2)) (r3 : 0 ≤ x1 := by omega) (r3' : x1 < (n2 : Int) := by omega) (hg5 : g y1 x1 = some y4) (hk3 : K y4 = some (0, 1)) (r6 : -2147483648 ≤ ((M y4 1) + x4) ∧ ((M y4 1) + x4) ≤ 2147483647 := by omega) (k1 : ((M y4 1) + x4) ≤ 24 → j_J G jm_LP_add d B S 86 [jr_ a0, ji_ x1, jl_ l2, u3, ji_ x4, jr_ y4, ji_ (x4 - 1)] [] (N, K, M, g) Q) (k2 : 24 < ((M y4 1) + x4) → Q (.inl (some (ji_ (-2)))) (N, K, M, g)) : j_J G jm_LP_add d B S 56 [jr_ a0, ji_ x1, jl_ l2, u3, ji_ x4, ji_ x5, u6] [] (N, K, M, g) Q :=
  j_aload_n d_LP_add_56 rfl <| j_getR d_LP_add_57 f_LP_15 hk1 hg2 <| j_iload_n d_LP_add_60 rfl <| j_aald d_LP_add_61 hk2 r3 r3' hg5 <| j_astore d_LP_add_62 rfl rfl <| j_aload d_LP_add_64 rfl <| j_getI d_LP_add_66 f_LP_85 hk3 <| j_iload d_LP_add_69 rfl <| j_iadd d_LP_add_71 <| j_bipush d_LP_add_72 (by decide) <| j_icmp_le d_LP_add_74 r6 (by decide) (fun h => j_iload d_LP_add_80 rfl <| j_iconst d_LP_add_82 <| j_isub d_LP_add_83 <| j_istore d_LP_add_84 rfl rfl <| k1 h) (fun h => j_bipush d_LP_add_77 (by decide) <| j_ireturn d_LP_add_79 rfl <| k2 h)
theorem s_LP_add_77 {G : j_G} {d B S N : Nat} {K : Nat → Option (Nat × Nat)} {M : Nat → Int → Int} {g : Nat → Int → Option Nat} {Q : j_O → j_S → Prop} {a0 a5 : Nat} {x1 x4 : Int} {l2 : Int64} {u3 u6 : j_V}  (k1 : Q (.inl (some (ji_ (-2)))) (N, K, M, g)) : j_J G jm_LP_add d B S 77 [jr_ a0, ji_ x1, jl_ l2, u3, ji_ x4, jr_ a5, u6] [] (N, K, M, g) Q :=
  j_bipush d_LP_add_77 (by decide) <| j_ireturn d_LP_add_79 rfl k1
theorem s_LP_add_80 {G : j_G} {d B S N : Nat} {K : Nat → Option (Nat × Nat)} {M : Nat → Int → Int} {g : Nat → Int → Option Nat} {Q : j_O → j_S → Prop} {a0 a5 : Nat} {x1 x4 : Int} {l2 : Int64} {u3 u6 : j_V}  (k1 : j_J G jm_LP_add d B S 86 [jr_ a0, ji_ x1, jl_ l2, u3, ji_ x4, jr_ a5, ji_ (x4 - 1)] [] (N, K, M, g) Q) : j_J G jm_LP_add d B S 80 [jr_ a0, ji_ x1, jl_ l2, u3, ji_ x4, jr_ a5, u6] [] (N, K, M, g) Q :=
  j_iload d_LP_add_80 rfl <| j_iconst d_LP_add_82 <| j_isub d_LP_add_83 <| j_istore d_LP_add_84 rfl rfl <| k1
theorem s_LP_add_86 {G : j_G} {d B S N : Nat} {K : Nat → Option (Nat × Nat)} {M : Nat → Int → Int} {g : Nat → Int → Option Nat} {Q : j_O → j_S → Prop} {a0 a5 : Nat} {x1 x4 x6 : Int} {l2 : Int64} {u3 : j_V} (r1 : -2147483648 ≤ x6 ∧ x6 ≤ 2147483647 := by omega) (k1 : x6 < 0 → j_J G jm_LP_add d B S 115 [jr_ a0, ji_ x1, jl_ l2, u3, ji_ x4, jr_ a5, ji_ x6] [] (N, K, M, g) Q) (k2 : 0 ≤ x6 → j_J G jm_LP_add d B S 91 [jr_ a0, ji_ x1, jl_ l2, u3, ji_ x4, jr_ a5, ji_ x6] [] (N, K, M, g) Q) : j_J G jm_LP_add d B S 86 [jr_ a0, ji_ x1, jl_ l2, u3, ji_ x4, jr_ a5, ji_ x6] [] (N, K, M, g) Q :=
  j_iload d_LP_add_86 rfl <| j_if_lt d_LP_add_88 r1 k1 k2
theorem s_LP_add_91 {G : j_G} {d B S N : Nat} {K : Nat → Option (Nat × Nat)} {M : Nat → Int → Int} {g : Nat → Int → Option Nat} {Q : j_O → j_S → Prop} {a0 a5 : Nat} {x1 x4 x6 : Int} {l2 : Int64} {u3 : j_V} {q : Int → (Nat → Int → Int) → Prop} (hk1 : K a5 = some (0, 1)) (hC : j_Ct G jm_Tx_add d 0 0 [jr_ a5, ji_ (((l2 >>> ((Int32.ofInt (8 * x6)).toInt64 &&& 63)).toInt32.toInt) % 2 ^ 8)] (N, K, M, g) (j_pI N K g q)) (k1 : ∀ z M', q z M' → j_J G jm_LP_add (d + 1) B S 108 [jr_ a0, ji_ x1, jl_ l2, u3, ji_ x4, jr_ a5, ji_ x6] [ji_ z] (N, K, M', g) Q) : j_J G jm_LP_add (d + 1) B S 91 [jr_ a0, ji_ x1, jl_ l2, u3, ji_ x4, jr_ a5, ji_ x6] [] (N, K, M, g) Q :=
  j_aload d_LP_add_91 rfl <| j_lload_n d_LP_add_93 rfl <| j_bipush d_LP_add_94 (by decide) <| j_iload d_LP_add_96 rfl <| j_imul d_LP_add_98 <| j_lshr d_LP_add_99 <| j_l2i d_LP_add_100 <| j_sipush d_LP_add_101 (by decide) <| j_iandM 8 d_LP_add_104 (by decide) (by decide) <| j_aVI (as := [ji_ (((l2 >>> ((Int32.ofInt (8 * x6)).toInt64 &&& 63)).toInt32.toInt) % 2 ^ 8)]) (rest := []) d_LP_add_105 c_LP_89 hk1 rfl (Nat.le_of_ble_eq_true rfl) hC k1
theorem s_LP_add_108 {G : j_G} {d B S N : Nat} {K : Nat → Option (Nat × Nat)} {M : Nat → Int → Int} {g : Nat → Int → Option Nat} {Q : j_O → j_S → Prop} {a0 a5 : Nat} {x1 x4 x6 t0 : Int} {l2 : Int64} {u3 : j_V}  (k1 : j_J G jm_LP_add d B S 86 [jr_ a0, ji_ x1, jl_ l2, u3, ji_ x4, jr_ a5, ji_ (x6 + (-1))] [] (N, K, M, g) Q) : j_J G jm_LP_add d B S 108 [jr_ a0, ji_ x1, jl_ l2, u3, ji_ x4, jr_ a5, ji_ x6] [ji_ t0] (N, K, M, g) Q :=
  j_popI d_LP_add_108 <| j_iinc d_LP_add_109 rfl rfl rfl <| j_goto d_LP_add_112 k1
theorem s_LP_add_115 {G : j_G} {d B S N : Nat} {K : Nat → Option (Nat × Nat)} {M : Nat → Int → Int} {g : Nat → Int → Option Nat} {Q : j_O → j_S → Prop} {a0 a5 : Nat} {x1 x4 x6 : Int} {l2 : Int64} {u3 : j_V} (hk1 : K a5 = some (0, 1)) (k1 : Q (.inl (some (ji_ (M a5 1)))) (N, K, M, g)) : j_J G jm_LP_add d B S 115 [jr_ a0, ji_ x1, jl_ l2, u3, ji_ x4, jr_ a5, ji_ x6] [] (N, K, M, g) Q :=
  j_aload d_LP_add_115 rfl <| j_getI d_LP_add_117 f_LP_85 hk1 <| j_ireturn d_LP_add_120 rfl k1
theorem s_LP_clear_0 {G : j_G} {d B S N : Nat} {K : Nat → Option (Nat × Nat)} {M : Nat → Int → Int} {g : Nat → Int → Option Nat} {Q : j_O → j_S → Prop} {a0 : Nat} {x1 : Int} {u2 : j_V} {q : Int → (Nat → Int → Int) → Prop} (hC : j_Ct G jm_LP_isText d 0 0 [ji_ x1] (N, K, M, g) (j_pI N K g q)) (k1 : ∀ z M', q z M' → j_J G jm_LP_clear (d + 1) B S 4 [jr_ a0, ji_ x1, u2] [ji_ z] (N, K, M', g) Q) : j_J G jm_LP_clear (d + 1) B S 0 [jr_ a0, ji_ x1, u2] [] (N, K, M, g) Q :=
  j_iload_n d_LP_clear_0 rfl <| j_aSI (as := [ji_ x1]) (rest := []) d_LP_clear_1 c_LP_78 rfl (Nat.le_of_ble_eq_true rfl) hC k1
theorem s_LP_clear_4 {G : j_G} {d B S N : Nat} {K : Nat → Option (Nat × Nat)} {M : Nat → Int → Int} {g : Nat → Int → Option Nat} {Q : j_O → j_S → Prop} {a0 : Nat} {x1 t0 : Int} {u2 : j_V} (r1 : -2147483648 ≤ t0 ∧ t0 ≤ 2147483647 := by omega) (k1 : t0 ≠ 0 → j_J G jm_LP_clear d B S 9 [jr_ a0, ji_ x1, u2] [] (N, K, M, g) Q) (k2 : t0 = 0 → Q (.inl (some (ji_ (-1)))) (N, K, M, g)) : j_J G jm_LP_clear d B S 4 [jr_ a0, ji_ x1, u2] [ji_ t0] (N, K, M, g) Q :=
  j_if_ne d_LP_clear_4 r1 k1 (fun h => j_iconst d_LP_clear_7 <| j_ireturn d_LP_clear_8 rfl <| k2 h)
theorem s_LP_clear_7 {G : j_G} {d B S N : Nat} {K : Nat → Option (Nat × Nat)} {M : Nat → Int → Int} {g : Nat → Int → Option Nat} {Q : j_O → j_S → Prop} {a0 : Nat} {x1 : Int} {u2 : j_V}  (k1 : Q (.inl (some (ji_ (-1)))) (N, K, M, g)) : j_J G jm_LP_clear d B S 7 [jr_ a0, ji_ x1, u2] [] (N, K, M, g) Q :=
  j_iconst d_LP_clear_7 <| j_ireturn d_LP_clear_8 rfl k1
theorem s_LP_clear_9 {G : j_G} {d B S N : Nat} {K : Nat → Option (Nat × Nat)} {M : Nat → Int → Int} {g : Nat → Int → Option Nat} {Q : j_O → j_S → Prop} {a0 y1 n2 tg2 y4 n4 tg4 y7 : Nat} {x1 : Int} {u2 : j_V} (hk1 : K a0 = some (0, 0)) (hg2 : g a0 0 = some y1) (hk2 : K y1 = some (tg2 + 3, n2)) (r3 : 0 ≤ x1 := by omega) (r3' : x1 < (n2 : Int) := by omega) (hg5 : g y1 x1 = some y4) (hk3 : K y4 = some (0, 1)) (hk4 : K y1 = some (tg4 + 3, n4)) (r6 : 0 ≤ x1 := by omega) (r6' : x1 < (n4 : Int) := by omega) (hg8 : g y1 x1 = some y7) (hk5 : K y7 = some (0, 1)) (k1 : Q (.inl (some (ji_ (M y4 1)))) (N, K, (j_up M y7 1 0), g)) : j_J G jm_LP_clear d B S 9 [jr_ a0, ji_ x1, u2] [] (N, K, M, g) Q :=
  j_aload_n d_LP_clear_9 rfl <| j_getR d_LP_clear_10 f_LP_15 hk1 hg2 <| j_iload_n d_LP_clear_13 rfl <| j_aald d_LP_clear_14 hk2 r3 r3' hg5 <| j_getI d_LP_clear_15 f_LP_85 hk3 <| j_istore_n d_LP_clear_18 rfl rfl <| j_aload_n d_LP_clear_19 rfl <| j_getR d_LP_clear_20 f_LP_15 hk1 hg2 <| j_iload_n d_LP_clear_23 rfl <| j_aald d_LP_clear_24 hk4 r6 r6' hg8 <| j_iconst d_LP_clear_25 <| j_putI d_LP_clear_26 f_LP_85 (⟨_, rfl, Or.inl rfl⟩) rfl hk5 <| j_iload_n d_LP_clear_29 rfl <| j_ireturn d_LP_clear_30 rfl k1
theorem s_LP_size_0 {G : j_G} {d B S N : Nat} {K : Nat → Option (Nat × Nat)} {M : Nat → Int → Int} {g : Nat → Int → Option Nat} {Q : j_O → j_S → Prop} {a0 : Nat} {x1 : Int} {q : Int → (Nat → Int → Int) → Prop} (hC : j_Ct G jm_LP_isText d 0 0 [ji_ x1] (N, K, M, g) (j_pI N K g q)) (k1 : ∀ z M', q z M' → j_J G jm_LP_size (d + 1) B S 4 [jr_ a0, ji_ x1] [ji_ z] (N, K, M', g) Q) : j_J G jm_LP_size (d + 1) B S 0 [jr_ a0, ji_ x1] [] (N, K, M, g) Q :=
  j_iload_n d_LP_size_0 rfl <| j_aSI (as := [ji_ x1]) (rest := []) d_LP_size_1 c_LP_78 rfl (Nat.le_of_ble_eq_true rfl) hC k1
theorem s_LP_size_4 {G : j_G} {d B S N : Nat} {K : Nat → Option (Nat × Nat)} {M : Nat → Int → Int} {g : Nat → Int → Option Nat} {Q : j_O → j_S → Prop} {a0 : Nat} {x1 t0 : Int} (r1 : -2147483648 ≤ t0 ∧ t0 ≤ 2147483647 := by omega) (k1 : t0 = 0 → Q (.inl (some (ji_ (-1)))) (N, K, M, g)) (k2 : t0 ≠ 0 → j_J G jm_LP_size d B S 7 [jr_ a0, ji_ x1] [] (N, K, M, g) Q) : j_J G jm_LP_size d B S 4 [jr_ a0, ji_ x1] [ji_ t0] (N, K, M, g) Q :=
  j_if_eq d_LP_size_4 r1 (fun h => j_iconst d_LP_size_19 <| j_ireturn d_LP_size_20 rfl <| k1 h) k2
theorem s_LP_size_7 {G : j_G} {d B S N : Nat} {K : Nat → Option (Nat × Nat)} {M : Nat → Int → Int} {g : Nat → Int → Option Nat} {Q : j_O → j_S → Prop} {a0 y1 n2 tg2 y4 : Nat} {x1 : Int} (hk1 : K a0 = some (0, 0)) (hg2 : g a0 0 = some y1) (hk2 : K y1 = some (tg2 + 3, n2)) (r3 : 0 ≤ x1 := by omega) (r3' : x1 < (n2 : Int) := by omega) (hg5 : g y1 x1 = some y4) (hk3 : K y4 = some (0, 1)) (k1 : Q (.inl (some (ji_ (M y4 1)))) (N, K, M, g)) : j_J G jm_LP_size d B S 7 [jr_ a0, ji_ x1] [] (N, K, M, g) Q :=
  j_aload_n d_LP_size_7 rfl <| j_getR d_LP_size_8 f_LP_15 hk1 hg2 <| j_iload_n d_LP_size_11 rfl <| j_aald d_LP_size_12 hk2 r3 r3' hg5 <| j_getI d_LP_size_13 f_LP_85 hk3 <| j_goto d_LP_size_16 (j_ireturn d_LP_size_20 rfl <| k1)
theorem s_LP_size_19 {G : j_G} {d B S N : Nat} {K : Nat → Option (Nat × Nat)} {M : Nat → Int → Int} {g : Nat → Int → Option Nat} {Q : j_O → j_S → Prop} {a0 : Nat} {x1 : Int}  (k1 : Q (.inl (some (ji_ (-1)))) (N, K, M, g)) : j_J G jm_LP_size d B S 19 [jr_ a0, ji_ x1] [] (N, K, M, g) Q :=
  j_iconst d_LP_size_19 <| (j_ireturn d_LP_size_20 rfl <| k1)
theorem s_LP_size_20 {G : j_G} {d B S N : Nat} {K : Nat → Option (Nat × Nat)} {M : Nat → Int → Int} {g : Nat → Int → Option Nat} {Q : j_O → j_S → Prop} {a0 : Nat} {x1 t0 : Int}  (k1 : Q (.inl (some (ji_ t0))) (N, K, M, g)) : j_J G jm_LP_size d B S 20 [jr_ a0, ji_ x1] [ji_ t0] (N, K, M, g) Q :=
  j_ireturn d_LP_size_20 rfl k1
theorem s_LP_line_0 {G : j_G} {d B S N : Nat} {K : Nat → Option (Nat × Nat)} {M : Nat → Int → Int} {g : Nat → Int → Option Nat} {Q : j_O → j_S → Prop} {a0 : Nat} {x1 x2 : Int} {q : Int → (Nat → Int → Int) → Prop} (hC : j_Ct G jm_LP_isText d 0 0 [ji_ x1] (N, K, M, g) (j_pI N K g q)) (k1 : ∀ z M', q z M' → j_J G jm_LP_line (d + 1) B S 4 [jr_ a0, ji_ x1, ji_ x2] [ji_ z] (N, K, M', g) Q) : j_J G jm_LP_line (d + 1) B S 0 [jr_ a0, ji_ x1, ji_ x2] [] (N, K, M, g) Q :=
  j_iload_n d_LP_line_0 rfl <| j_aSI (as := [ji_ x1]) (rest := []) d_LP_line_1 c_LP_78 rfl (Nat.le_of_ble_eq_true rfl) hC k1
theorem s_LP_line_4 {G : j_G} {d B S N : Nat} {K : Nat → Option (Nat × Nat)} {M : Nat → Int → Int} {g : Nat → Int → Option Nat} {Q : j_O → j_S → Prop} {a0 : Nat} {x1 x2 t0 : Int} (r1 : -2147483648 ≤ t0 ∧ t0 ≤ 2147483647 := by omega) (k1 : t0 ≠ 0 → j_J G jm_LP_line d B S 9 [jr_ a0, ji_ x1, ji_ x2] [] (N, K, M, g) Q) (k2 : t0 = 0 → Q (.inl (some (ji_ (-1)))) (N, K, M, g)) : j_J G jm_LP_line d B S 4 [jr_ a0, ji_ x1, ji_ x2] [ji_ t0] (N, K, M, g) Q :=
  j_if_ne d_LP_line_4 r1 k1 (fun h => j_iconst d_LP_line_7 <| j_ireturn d_LP_line_8 rfl <| k2 h)
theorem s_LP_line_7 {G : j_G} {d B S N : Nat} {K : Nat → Option (Nat × Nat)} {M : Nat → Int → Int} {g : Nat → Int → Option Nat} {Q : j_O → j_S → Prop} {a0 : Nat} {x1 x2 : Int}  (k1 : Q (.inl (some (ji_ (-1)))) (N, K, M, g)) : j_J G jm_LP_line d B S 7 [jr_ a0, ji_ x1, ji_ x2] [] (N, K, M, g) Q :=
  j_iconst d_LP_line_7 <| j_ireturn d_LP_line_8 rfl k1
theorem s_LP_line_9 {G : j_G} {d B S N : Nat} {K : Nat → Option (Nat × Nat)} {M : Nat → Int → Int} {g : Nat → Int → Option Nat} {Q : j_O → j_S → Prop} {a0 y1 n2 tg2 y4 : Nat} {x1 x2 : Int} {q : Int → (Nat → Int → Int) → Prop} (hk1 : K a0 = some (0, 0)) (hg2 : g a0 0 = some y1) (hk2 : K y1 = some (tg2 + 3, n2)) (r3 : 0 ≤ x1 := by omega) (r3' : x1 < (n2 : Int) := by omega) (hg5 : g y1 x1 = some y4) (hk3 : K y4 = some (0, 1)) (hC : j_Ct G jm_LP_within d 0 0 [ji_ x2, ji_ 0, ji_ ((M y4 1) - 1)] (N, K, M, g) (j_pI N K g q)) (k1 : ∀ z M', q z M' → j_J G jm_LP_line (d + 1) B S 25 [jr_ a0, ji_ x1, ji_ x2] [ji_ z] (N, K, M', g) Q) : j_J G jm_LP_line (d + 1) B S 9 [jr_ a0, ji_ x1, ji_ x2] [] (N, K, M, g) Q :=
  j_iload_n d_LP_line_9 rfl <| j_iconst d_LP_line_10 <| j_aload_n d_LP_line_11 rfl <| j_getR d_LP_line_12 f_LP_15 hk1 hg2 <| j_iload_n d_LP_line_15 rfl <| j_aald d_LP_line_16 hk2 r3 r3' hg5 <| j_getI d_LP_line_17 f_LP_85 hk3 <| j_iconst d_LP_line_20 <| j_isub d_LP_line_21 <| j_aSI (as := [ji_ x2, ji_ 0, ji_ ((M y4 1) - 1)]) (rest := []) d_LP_line_22 c_LP_1 rfl (Nat.le_of_ble_eq_true rfl) hC k1
theorem s_LP_line_25 {G : j_G} {d B S N : Nat} {K : Nat → Option (Nat × Nat)} {M : Nat → Int → Int} {g : Nat → Int → Option Nat} {Q : j_O → j_S → Prop} {a0 : Nat} {x1 x2 t0 : Int} (r1 : -2147483648 ≤ t0 ∧ t0 ≤ 2147483647 := by omega) (k1 : t0 = 0 → Q (.inl (some (ji_ (-3)))) (N, K, M, g)) (k2 : t0 ≠ 0 → j_J G jm_LP_line d B S 28 [jr_ a0, ji_ x1, ji_ x2] [] (N, K, M, g) Q) : j_J G jm_LP_line d B S 25 [jr_ a0, ji_ x1, ji_ x2] [ji_ t0] (N, K, M, g) Q :=
  j_if_eq d_LP_line_25 r1 (fun h => j_bipush d_LP_line_42 (by decide) <| j_ireturn d_LP_line_44 rfl <| k1 h) k2
theorem s_LP_line_28 {G : j_G} {d B S N : Nat} {K : Nat → Option (Nat × Nat)} {M : Nat → Int → Int} {g : Nat → Int → Option Nat} {Q : j_O → j_S → Prop} {a0 y1 n2 tg2 y4 y6 n4 : Nat} {x1 x2 : Int} (hk1 : K a0 = some (0, 0)) (hg2 : g a0 0 = some y1) (hk2 : K y1 = some (tg2 + 3, n2)) (r3 : 0 ≤ x1 := by omega) (r3' : x1 < (n2 : Int) := by omega) (hg5 : g y1 x1 = some y4) (hk3 : K y4 = some (0, 1)) (hg7 : g y4 0 = some y6) (hk4 : K y6 = some (2, n4)) (r8 : 0 ≤ x2 := by omega) (r8' : x2 < (n4 : Int) := by omega) (k1 : Q (.inl (some (ji_ (M y6 x2)))) (N, K, M, g)) : j_J G jm_LP_line d B S 28 [jr_ a0, ji_ x1, ji_ x2] [] (N, K, M, g) Q :=
  j_aload_n d_LP_line_28 rfl <| j_getR d_LP_line_29 f_LP_15 hk1 hg2 <| j_iload_n d_LP_line_32 rfl <| j_aald d_LP_line_33 hk2 r3 r3' hg5 <| j_getR d_LP_line_34 f_LP_92 hk3 hg7 <| j_iload_n d_LP_line_37 rfl <| j_bald d_LP_line_38 hk4 r8 r8' <| j_goto d_LP_line_39 (j_ireturn d_LP_line_44 rfl <| k1)
theorem s_LP_line_42 {G : j_G} {d B S N : Nat} {K : Nat → Option (Nat × Nat)} {M : Nat → Int → Int} {g : Nat → Int → Option Nat} {Q : j_O → j_S → Prop} {a0 : Nat} {x1 x2 : Int}  (k1 : Q (.inl (some (ji_ (-3)))) (N, K, M, g)) : j_J G jm_LP_line d B S 42 [jr_ a0, ji_ x1, ji_ x2] [] (N, K, M, g) Q :=
  j_bipush d_LP_line_42 (by decide) <| (j_ireturn d_LP_line_44 rfl <| k1)
theorem s_LP_line_44 {G : j_G} {d B S N : Nat} {K : Nat → Option (Nat × Nat)} {M : Nat → Int → Int} {g : Nat → Int → Option Nat} {Q : j_O → j_S → Prop} {a0 : Nat} {x1 x2 t0 : Int}  (k1 : Q (.inl (some (ji_ t0))) (N, K, M, g)) : j_J G jm_LP_line d B S 44 [jr_ a0, ji_ x1, ji_ x2] [ji_ t0] (N, K, M, g) Q :=
  j_ireturn d_LP_line_44 rfl k1
theorem s_LP_compare_0 {G : j_G} {d B S N : Nat} {K : Nat → Option (Nat × Nat)} {M : Nat → Int → Int} {g : Nat → Int → Option Nat} {Q : j_O → j_S → Prop} {a0 : Nat} {x1 x2 x3 : Int} {q : Int → (Nat → Int → Int) → Prop} (hC : j_Ct G jm_LP_isText d 0 0 [ji_ x1] (N, K, M, g) (j_pI N K g q)) (k1 : ∀ z M', q z M' → j_J G jm_LP_compare (d + 1) B S 4 [jr_ a0, ji_ x1, ji_ x2, ji_ x3] [ji_ z] (N, K, M', g) Q) : j_J G jm_LP_compare (d + 1) B S 0 [jr_ a0, ji_ x1, ji_ x2, ji_ x3] [] (N, K, M, g) Q :=
  j_iload_n d_LP_compare_0 rfl <| j_aSI (as := [ji_ x1]) (rest := []) d_LP_compare_1 c_LP_78 rfl (Nat.le_of_ble_eq_true rfl) hC k1
theorem s_LP_compare_4 {G : j_G} {d B S N : Nat} {K : Nat → Option (Nat × Nat)} {M : Nat → Int → Int} {g : Nat → Int → Option Nat} {Q : j_O → j_S → Prop} {a0 : Nat} {x1 x2 x3 t0 : Int} (r1 : -2147483648 ≤ t0 ∧ t0 ≤ 2147483647 := by omega) (k1 : t0 = 0 → Q (.inl (some (ji_ (-1)))) (N, K, M, g)) (k2 : t0 ≠ 0 → j_J G jm_LP_compare d B S 7 [jr_ a0, ji_ x1, ji_ x2, ji_ x3] [] (N, K, M, g) Q) : j_J G jm_LP_compare d B S 4 [jr_ a0, ji_ x1, ji_ x2, ji_ x3] [ji_ t0] (N, K, M, g) Q :=
  j_if_eq d_LP_compare_4 r1 (fun h => j_iconst d_LP_compare_23 <| j_ireturn d_LP_compare_24 rfl <| k1 h) k2
theorem s_LP_compare_7 {G : j_G} {d B S N : Nat} {K : Nat → Option (Nat × Nat)} {M : Nat → Int → Int} {g : Nat → Int → Option Nat} {Q : j_O → j_S → Prop} {a0 : Nat} {x1 x2 x3 : Int} {q : Int → (Nat → Int → Int) → Prop} (hC : j_Ct G jm_LP_isText d 0 0 [ji_ x2] (N, K, M, g) (j_pI N K g q)) (k1 : ∀ z M', q z M' → j_J G jm_LP_compare (d + 1) B S 11 [jr_ a0, ji_ x1, ji_ x2, ji_ x3] [ji_ z] (N, K, M', g) Q) : j_J G jm_LP_compare (d + 1) B S 7 [jr_ a0, ji_ x1, ji_ x2, ji_ x3] [] (N, K, M, g) Q :=
  j_iload_n d_LP_compare_7 rfl <| j_aSI (as := [ji_ x2]) (rest := []) d_LP_compare_8 c_LP_78 rfl (Nat.le_of_ble_eq_true rfl) hC k1
theorem s_LP_compare_11 {G : j_G} {d B S N : Nat} {K : Nat → Option (Nat × Nat)} {M : Nat → Int → Int} {g : Nat → Int → Option Nat} {Q : j_O → j_S → Prop} {a0 : Nat} {x1 x2 x3 t0 : Int} (r1 : -2147483648 ≤ t0 ∧ t0 ≤ 2147483647 := by omega) (k1 : t0 = 0 → Q (.inl (some (ji_ (-1)))) (N, K, M, g)) (k2 : t0 ≠ 0 → j_J G jm_LP_compare d B S 14 [jr_ a0, ji_ x1, ji_ x2, ji_ x3] [] (N, K, M, g) Q) : j_J G jm_LP_compare d B S 11 [jr_ a0, ji_ x1, ji_ x2, ji_ x3] [ji_ t0] (N, K, M, g) Q :=
  j_if_eq d_LP_compare_11 r1 (fun h => j_iconst d_LP_compare_23 <| j_ireturn d_LP_compare_24 rfl <| k1 h) k2
theorem s_LP_compare_14 {G : j_G} {d B S N : Nat} {K : Nat → Option (Nat × Nat)} {M : Nat → Int → Int} {g : Nat → Int → Option Nat} {Q : j_O → j_S → Prop} {a0 : Nat} {x1 x2 x3 : Int} {q : Int → (Nat → Int → Int) → Prop} (hC : j_Ct G jm_LP_within d 0 0 [ji_ x3, ji_ 0, ji_ 1] (N, K, M, g) (j_pI N K g q)) (k1 : ∀ z M', q z M' → j_J G jm_LP_compare (d + 1) B S 20 [jr_ a0, ji_ x1, ji_ x2, ji_ x3] [ji_ z] (N, K, M', g) Q) : j_J G jm_LP_compare (d + 1) B S 14 [jr_ a0, ji_ x1, ji_ x2, ji_ x3] [] (N, K, M, g) Q :=
  j_iload_n d_LP_compare_14 rfl <| j_iconst d_LP_compare_15 <| j_iconst d_LP_compare_16 <| j_aSI (as := [ji_ x3, ji_ 0, ji_ 1]) (rest := []) d_LP_compare_17 c_LP_1 rfl (Nat.le_of_ble_eq_true rfl) hC k1
theorem s_LP_compare_20 {G : j_G} {d B S N : Nat} {K : Nat → Option (Nat × Nat)} {M : Nat → Int → Int} {g : Nat → Int → Option Nat} {Q : j_O → j_S → Prop} {a0 : Nat} {x1 x2 x3 t0 : Int} (r1 : -2147483648 ≤ t0 ∧ t0 ≤ 2147483647 := by omega) (k1 : t0 ≠ 0 → j_J G jm_LP_compare d B S 25 [jr_ a0, ji_ x1, ji_ x2, ji_ x3] [] (N, K, M, g) Q) (k2 : t0 = 0 → Q (.inl (some (ji_ (-1)))) (N, K, M, g)) : j_J G jm_LP_compare d B S 20 [jr_ a0, ji_ x1, ji_ x2, ji_ x3] [ji_ t0] (N, K, M, g) Q :=
  j_if_ne d_LP_compare_20 r1 k1 (fun h => j_iconst d_LP_compare_23 <| j_ireturn d_LP_compare_24 rfl <| k2 h)
theorem s_LP_compare_23 {G : j_G} {d B S N : Nat} {K : Nat → Option (Nat × Nat)} {M : Nat → Int → Int} {g : Nat → Int → Option Nat} {Q : j_O → j_S → Prop} {a0 : Nat} {x1 x2 x3 : Int}  (k1 : Q (.inl (some (ji_ (-1)))) (N, K, M, g)) : j_J G jm_LP_compare d B S 23 [jr_ a0, ji_ x1, ji_ x2, ji_ x3] [] (N, K, M, g) Q :=
  j_iconst d_LP_compare_23 <| j_ireturn d_LP_compare_24 rfl k1
theorem s_LP_compare_25 {G : j_G} {d B S N : Nat} {K : Nat → Option (Nat × Nat)} {M : Nat → Int → Int} {g : Nat → Int → Option Nat} {Q : j_O → j_S → Prop} {a0 y1 n2 tg2 y4 : Nat} {x1 x2 x3 : Int} {q : Int → (Nat → Int → Int) → Prop} (hk1 : K a0 = some (0, 0)) (hg2 : g a0 0 = some y1) (hk2 : K y1 = some (tg2 + 3, n2)) (r3 : 0 ≤ x1 := by omega) (r3' : x1 < (n2 : Int) := by omega) (hg5 : g y1 x1 = some y4) (hk3 : K y4 = some (0, 1)) (hC : j_Ct G jm_Tx_isPlain d 0 0 [jr_ y4] (N, K, M, g) (j_pI N K g q)) (k1 : ∀ z M', q z M' → j_J G jm_LP_compare (d + 1) B S 34 [jr_ a0, ji_ x1, ji_ x2, ji_ x3] [ji_ z] (N, K, M', g) Q) : j_J G jm_LP_compare (d + 1) B S 25 [jr_ a0, ji_ x1, ji_ x2, ji_ x3] [] (N, K, M, g) Q :=
  j_aload_n d_LP_compare_25 rfl <| j_getR d_LP_compare_26 f_LP_15 hk1 hg2 <| j_iload_n d_LP_compare_29 rfl <| j_aald d_LP_compare_30 hk2 r3 r3' hg5 <| j_aVI (as := []) (rest := []) d_LP_compare_31 c_LP_96 hk3 rfl (Nat.le_of_ble_eq_true rfl) hC k1
theorem s_LP_compare_34 {G : j_G} {d B S N : Nat} {K : Nat → Option (Nat × Nat)} {M : Nat → Int → Int} {g : Nat → Int → Option Nat} {Q : j_O → j_S → Prop} {a0 : Nat} {x1 x2 x3 t0 : Int} (r1 : -2147483648 ≤ t0 ∧ t0 ≤ 2147483647 := by omega) (k1 : t0 = 0 → Q (.inl (some (ji_ (-3)))) (N, K, M, g)) (k2 : t0 ≠ 0 → j_J G jm_LP_compare d B S 37 [jr_ a0, ji_ x1, ji_ x2, ji_ x3] [] (N, K, M, g) Q) : j_J G jm_LP_compare d B S 34 [jr_ a0, ji_ x1, ji_ x2, ji_ x3] [ji_ t0] (N, K, M, g) Q :=
  j_if_eq d_LP_compare_34 r1 (fun h => j_bipush d_LP_compare_49 (by decide) <| j_ireturn d_LP_compare_51 rfl <| k1 h) k2
theorem s_LP_compare_37 {G : j_G} {d B S N : Nat} {K : Nat → Option (Nat × Nat)} {M : Nat → Int → Int} {g : Nat → Int → Option Nat} {Q : j_O → j_S → Prop} {a0 y1 n2 tg2 y4 : Nat} {x1 x2 x3 : Int} {q : Int → (Nat → Int → Int) → Prop} (hk1 : K a0 = some (0, 0)) (hg2 : g a0 0 = some y1) (hk2 : K y1 = some (tg2 + 3, n2)) (r3 : 0 ≤ x2 := by omega) (r3' : x2 < (n2 : Int) := by omega) (hg5 : g y1 x2 = some y4) (hk3 : K y4 = some (0, 1)) (hC : j_Ct G jm_Tx_isPlain d 0 0 [jr_ y4] (N, K, M, g) (j_pI N K g q)) (k1 : ∀ z M', q z M' → j_J G jm_LP_compare (d + 1) B S 46 [jr_ a0, ji_ x1, ji_ x2, ji_ x3] [ji_ z] (N, K, M', g) Q) : j_J G jm_LP_compare (d + 1) B S 37 [jr_ a0, ji_ x1, ji_ x2, ji_ x3] [] (N, K, M, g) Q :=
  j_aload_n d_LP_compare_37 rfl <| j_getR d_LP_compare_38 f_LP_15 hk1 hg2 <| j_iload_n d_LP_compare_41 rfl <| j_aald d_LP_compare_42 hk2 r3 r3' hg5 <| j_aVI (as := []) (rest := []) d_LP_compare_43 c_LP_96 hk3 rfl (Nat.le_of_ble_eq_true rfl) hC k1
theorem s_LP_compare_46 {G : j_G} {d B S N : Nat} {K : Nat → Option (Nat × Nat)} {M : Nat → Int → Int} {g : Nat → Int → Option Nat} {Q : j_O → j_S → Prop} {a0 : Nat} {x1 x2 x3 t0 : Int} (r1 : -2147483648 ≤ t0 ∧ t0 ≤ 2147483647 := by omega) (k1 : t0 ≠ 0 → j_J G jm_LP_compare d B S 52 [jr_ a0, ji_ x1, ji_ x2, ji_ x3] [] (N, K, M, g) Q) (k2 : t0 = 0 → Q (.inl (some (ji_ (-3)))) (N, K, M, g)) : j_J G jm_LP_compare d B S 46 [jr_ a0, ji_ x1, ji_ x2, ji_ x3] [ji_ t0] (N, K, M, g) Q :=
  j_if_ne d_LP_compare_46 r1 k1 (fun h => j_bipush d_LP_compare_49 (by decide) <| j_ireturn d_LP_compare_51 rfl <| k2 h)
theorem s_LP_compare_49 {G : j_G} {d B S N : Nat} {K : Nat → Option (Nat × Nat)} {M : Nat → Int → Int} {g : Nat → Int → Option Nat} {Q : j_O → j_S → Prop} {a0 : Nat} {x1 x2 x3 : Int}  (k1 : Q (.inl (some (ji_ (-3)))) (N, K, M, g)) : j_J G jm_LP_compare d B S 49 [jr_ a0, ji_ x1, ji_ x2, ji_ x3] [] (N, K, M, g) Q :=
  j_bipush d_LP_compare_49 (by decide) <| j_ireturn d_LP_compare_51 rfl k1
theorem s_LP_compare_52 {G : j_G} {d B S N : Nat} {K : Nat → Option (Nat × Nat)} {M : Nat → Int → Int} {g : Nat → Int → Option Nat} {Q : j_O → j_S → Prop} {a0 y1 y3 n2 tg2 y6 n3 tg3 y9 : Nat} {x1 x2 x3 : Int} {q : (Nat → Int → Int) → Prop} (hk1 : K a0 = some (0, 0)) (hg2 : g a0 3 = some y1) (hg4 : g a0 0 = some y3) (hk2 : K y3 = some (tg2 + 3, n2)) (r5 : 0 ≤ x1 := by omega) (r5' : x1 < (n2 : Int) := by omega) (hg7 : g y3 x1 = some y6) (hk3 : K y3 = some (tg3 + 3, n3)) (r8 : 0 ≤ x2 := by omega) (r8' : x2 < (n3 : Int) := by omega) (hg10 : g y3 x2 = some y9) (hk4 : K y1 = some (0, 2)) (hC : j_Ct G jm_Pr_begin d 0 0 [jr_ y1, jr_ y6, jr_ y9] (N, K, M, g) (j_pV N K g q)) (k1 : ∀ M', q M' → j_J G jm_LP_compare (d + 1) B S 71 [jr_ a0, ji_ x1, ji_ x2, ji_ x3] [] (N, K, M', g) Q) : j_J G jm_LP_compare (d + 1) B S 52 [jr_ a0, ji_ x1, ji_ x2, ji_ x3] [] (N, K, M, g) Q :=
  j_aload_n d_LP_compare_52 rfl <| j_getR d_LP_compare_53 f_LP_40 hk1 hg2 <| j_aload_n d_LP_compare_56 rfl <| j_getR d_LP_compare_57 f_LP_15 hk1 hg4 <| j_iload_n d_LP_compare_60 rfl <| j_aald d_LP_compare_61 hk2 r5 r5' hg7 <| j_aload_n d_LP_compare_62 rfl <| j_getR d_LP_compare_63 f_LP_15 hk1 hg4 <| j_iload_n d_LP_compare_66 rfl <| j_aald d_LP_compare_67 hk3 r8 r8' hg10 <| j_aVV (as := [jr_ y6, jr_ y9]) (rest := []) d_LP_compare_68 c_LP_100 hk4 rfl (Nat.le_of_ble_eq_true rfl) hC k1
theorem s_LP_compare_71 {G : j_G} {d B S N : Nat} {K : Nat → Option (Nat × Nat)} {M : Nat → Int → Int} {g : Nat → Int → Option Nat} {Q : j_O → j_S → Prop} {a0 y1 n2 tg2 y4 y6 y8 y10 ci12 : Nat} {x1 x2 x3 : Int} {q : (Nat → Int → Int) → Prop} {y' : j_Mt} (hk1 : K a0 = some (0, 0)) (hg2 : g a0 2 = some y1) (hk2 : K y1 = some (tg2 + 3, n2)) (r3 : 0 ≤ x3 := by omega) (r3' : x3 < (n2 : Int) := by omega) (hg5 : g y1 x3 = some y4) (hg7 : g a0 3 = some y6) (hk3 : K y6 = some (0, 2)) (hg9 : g y6 0 = some y8) (hk4 : K y8 = some (0, 1)) (hg11 : g y6 1 = some y10) (hk5 : K y10 = some (0, 1)) (hk13 : K y4 = some (0, ci12)) (hf14 : j_Lf "LinePatcher" 110 ci12 ⟨"LinePatcher$Way", "run", "(LLinePatcher$Pairing;IIII)V"⟩ y' 5) (hC : j_Ct G y' d 0 0 [jr_ y4, jr_ y6, ji_ 0, ji_ (M y8 1), ji_ 0, ji_ (M y10 1)] (N, K, M, g) (j_pV N K g q)) (k1 : ∀ M', q M' → j_J G jm_LP_compare (d + 1) B S 108 [jr_ a0, ji_ x1, ji_ x2, ji_ x3] [] (N, K, M', g) Q) : j_J G jm_LP_compare (d + 1) B S 71 [jr_ a0, ji_ x1, ji_ x2, ji_ x3] [] (N, K, M, g) Q :=
  j_aload_n d_LP_compare_71 rfl <| j_getR d_LP_compare_72 f_LP_33 hk1 hg2 <| j_iload_n d_LP_compare_75 rfl <| j_aald d_LP_compare_76 hk2 r3 r3' hg5 <| j_aload_n d_LP_compare_77 rfl <| j_getR d_LP_compare_78 f_LP_40 hk1 hg7 <| j_iconst d_LP_compare_81 <| j_aload_n d_LP_compare_82 rfl <| j_getR d_LP_compare_83 f_LP_40 hk1 hg7 <| j_getR d_LP_compare_86 f_LP_104 hk3 hg9 <| j_getI d_LP_compare_89 f_LP_85 hk4 <| j_iconst d_LP_compare_92 <| j_aload_n d_LP_compare_93 rfl <| j_getR d_LP_compare_94 f_LP_40 hk1 hg7 <| j_getR d_LP_compare_97 f_LP_107 hk3 hg11 <| j_getI d_LP_compare_100 f_LP_85 hk5 <| j_aF (as := [jr_ y6, ji_ 0, ji_ (M y8 1), ji_ 0, ji_ (M y10 1)]) (rest := []) d_LP_compare_103 hf14 hk13 rfl (Nat.le_of_ble_eq_true rfl) hC k1
theorem s_LP_compare_108 {G : j_G} {d B S N : Nat} {K : Nat → Option (Nat × Nat)} {M : Nat → Int → Int} {g : Nat → Int → Option Nat} {Q : j_O → j_S → Prop} {a0 y1 : Nat} {x1 x2 x3 : Int} {q : Int → (Nat → Int → Int) → Prop} (hk1 : K a0 = some (0, 0)) (hg2 : g a0 3 = some y1) (hk2 : K y1 = some (0, 2)) (hC : j_Ct G jm_Pr_changes d 0 0 [jr_ y1] (N, K, (j_up M a0 7 1), g) (j_pI N K g q)) (k1 : ∀ z M', q z M' → j_J G jm_LP_compare (d + 1) B S 120 [jr_ a0, ji_ x1, ji_ x2, ji_ x3] [ji_ z] (N, K, M', g) Q) : j_J G jm_LP_compare (d + 1) B S 108 [jr_ a0, ji_ x1, ji_ x2, ji_ x3] [] (N, K, M, g) Q :=
  j_aload_n d_LP_compare_108 rfl <| j_iconst d_LP_compare_109 <| j_putZ' d_LP_compare_110 f_LP_114 (⟨_, rfl, Or.inl rfl⟩) rfl hk1 (Or.inr rfl) <| j_aload_n d_LP_compare_113 rfl <| j_getR d_LP_compare_114 f_LP_40 hk1 hg2 <| j_aVI (as := []) (rest := []) d_LP_compare_117 c_LP_118 hk2 rfl (Nat.le_of_ble_eq_true rfl) hC k1
theorem s_LP_compare_120 {G : j_G} {d B S N : Nat} {K : Nat → Option (Nat × Nat)} {M : Nat → Int → Int} {g : Nat → Int → Option Nat} {Q : j_O → j_S → Prop} {a0 : Nat} {x1 x2 x3 t0 : Int}  (k1 : Q (.inl (some (ji_ t0))) (N, K, M, g)) : j_J G jm_LP_compare d B S 120 [jr_ a0, ji_ x1, ji_ x2, ji_ x3] [ji_ t0] (N, K, M, g) Q :=
  j_ireturn d_LP_compare_120 rfl k1
theorem s_LP_match_0 {G : j_G} {d B S N : Nat} {K : Nat → Option (Nat × Nat)} {M : Nat → Int → Int} {g : Nat → Int → Option Nat} {Q : j_O → j_S → Prop} {a0 : Nat} {x1 : Int} (hk1 : K a0 = some (0, 0)) (r1 : -2147483648 ≤ (M a0 7) ∧ (M a0 7) ≤ 2147483647 := by omega) (k1 : (M a0 7) = 0 → Q (.inl (some (ji_ (-3)))) (N, K, M, g)) (k2 : (M a0 7) ≠ 0 → j_J G jm_LP_match d B S 7 [jr_ a0, ji_ x1] [] (N, K, M, g) Q) : j_J G jm_LP_match d B S 0 [jr_ a0, ji_ x1] [] (N, K, M, g) Q :=
  j_aload_n d_LP_match_0 rfl <| j_getI d_LP_match_1 f_LP_114 hk1 <| j_if_eq d_LP_match_4 r1 (fun h => j_bipush d_LP_match_39 (by decide) <| j_ireturn d_LP_match_41 rfl <| k1 h) k2
theorem s_LP_match_7 {G : j_G} {d B S N : Nat} {K : Nat → Option (Nat × Nat)} {M : Nat → Int → Int} {g : Nat → Int → Option Nat} {Q : j_O → j_S → Prop} {a0 y1 y3 : Nat} {x1 : Int} {q : Int → (Nat → Int → Int) → Prop} (hk1 : K a0 = some (0, 0)) (hg2 : g a0 3 = some y1) (hk2 : K y1 = some (0, 2)) (hg4 : g y1 0 = some y3) (hk3 : K y3 = some (0, 1)) (hC : j_Ct G jm_LP_within d 0 0 [ji_ x1, ji_ 0, ji_ ((M y3 1) - 1)] (N, K, M, g) (j_pI N K g q)) (k1 : ∀ z M', q z M' → j_J G jm_LP_match (d + 1) B S 24 [jr_ a0, ji_ x1] [ji_ z] (N, K, M', g) Q) : j_J G jm_LP_match (d + 1) B S 7 [jr_ a0, ji_ x1] [] (N, K, M, g) Q :=
  j_iload_n d_LP_match_7 rfl <| j_iconst d_LP_match_8 <| j_aload_n d_LP_match_9 rfl <| j_getR d_LP_match_10 f_LP_40 hk1 hg2 <| j_getR d_LP_match_13 f_LP_104 hk2 hg4 <| j_getI d_LP_match_16 f_LP_85 hk3 <| j_iconst d_LP_match_19 <| j_isub d_LP_match_20 <| j_aSI (as := [ji_ x1, ji_ 0, ji_ ((M y3 1) - 1)]) (rest := []) d_LP_match_21 c_LP_1 rfl (Nat.le_of_ble_eq_true rfl) hC k1
theorem s_LP_match_24 {G : j_G} {d B S N : Nat} {K : Nat → Option (Nat × Nat)} {M : Nat → Int → Int} {g : Nat → Int → Option Nat} {Q : j_O → j_S → Prop} {a0 : Nat} {x1 t0 : Int} (r1 : -2147483648 ≤ t0 ∧ t0 ≤ 2147483647 := by omega) (k1 : t0 = 0 → Q (.inl (some (ji_ (-3)))) (N, K, M, g)) (k2 : t0 ≠ 0 → j_J G jm_LP_match d B S 27 [jr_ a0, ji_ x1] [] (N, K, M, g) Q) : j_J G jm_LP_match d B S 24 [jr_ a0, ji_ x1] [ji_ t0] (N, K, M, g) Q :=
  j_if_eq d_LP_match_24 r1 (fun h => j_bipush d_LP_match_39 (by decide) <| j_ireturn d_LP_match_41 rfl <| k1 h) k2
theorem s_LP_match_27 {G : j_G} {d B S N : Nat} {K : Nat → Option (Nat × Nat)} {M : Nat → Int → Int} {g : Nat → Int → Option Nat} {Q : j_O → j_S → Prop} {a0 y1 y3 n3 : Nat} {x1 : Int} (hk1 : K a0 = some (0, 0)) (hg2 : g a0 3 = some y1) (hk2 : K y1 = some (0, 2)) (hg4 : g y1 2 = some y3) (hk3 : K y3 = some (2, n3)) (r5 : 0 ≤ x1 := by omega) (r5' : x1 < (n3 : Int) := by omega) (r6 : -2147483648 ≤ (M y3 x1) ∧ (M y3 x1) ≤ 2147483647 := by omega) (k1 : 0 ≤ (M y3 x1) → j_J G jm_LP_match d B S 42 [jr_ a0, ji_ x1] [] (N, K, M, g) Q) (k2 : (M y3 x1) < 0 → Q (.inl (some (ji_ (-3)))) (N, K, M, g)) : j_J G jm_LP_match d B S 27 [jr_ a0, ji_ x1] [] (N, K, M, g) Q :=
  j_aload_n d_LP_match_27 rfl <| j_getR d_LP_match_28 f_LP_40 hk1 hg2 <| j_getR d_LP_match_31 f_LP_121 hk2 hg4 <| j_iload_n d_LP_match_34 rfl <| j_bald d_LP_match_35 hk3 r5 r5' <| j_if_ge d_LP_match_36 r6 k1 (fun h => j_bipush d_LP_match_39 (by decide) <| j_ireturn d_LP_match_41 rfl <| k2 h)
theorem s_LP_match_39 {G : j_G} {d B S N : Nat} {K : Nat → Option (Nat × Nat)} {M : Nat → Int → Int} {g : Nat → Int → Option Nat} {Q : j_O → j_S → Prop} {a0 : Nat} {x1 : Int}  (k1 : Q (.inl (some (ji_ (-3)))) (N, K, M, g)) : j_J G jm_LP_match d B S 39 [jr_ a0, ji_ x1] [] (N, K, M, g) Q :=
  j_bipush d_LP_match_39 (by decide) <| j_ireturn d_LP_match_41 rfl k1
theorem s_LP_match_42 {G : j_G} {d B S N : Nat} {K : Nat → Option (Nat × Nat)} {M : Nat → Int → Int} {g : Nat → Int → Option Nat} {Q : j_O → j_S → Prop} {a0 y1 y3 n3 : Nat} {x1 : Int} (hk1 : K a0 = some (0, 0)) (hg2 : g a0 3 = some y1) (hk2 : K y1 = some (0, 2)) (hg4 : g y1 2 = some y3) (hk3 : K y3 = some (2, n3)) (r5 : 0 ≤ x1 := by omega) (r5' : x1 < (n3 : Int) := by omega) (k1 : Q (.inl (some (ji_ (M y3 x1)))) (N, K, M, g)) : j_J G jm_LP_match d B S 42 [jr_ a0, ji_ x1] [] (N, K, M, g) Q :=
  j_aload_n d_LP_match_42 rfl <| j_getR d_LP_match_43 f_LP_40 hk1 hg2 <| j_getR d_LP_match_46 f_LP_121 hk2 hg4 <| j_iload_n d_LP_match_49 rfl <| j_bald d_LP_match_50 hk3 r5 r5' <| j_ireturn d_LP_match_51 rfl k1
theorem s_LP_findChanges_0 {G : j_G} {d B S N : Nat} {K : Nat → Option (Nat × Nat)} {M : Nat → Int → Int} {g : Nat → Int → Option Nat} {Q : j_O → j_S → Prop} {a0 : Nat} {u1 u2 u3 : j_V} (hk1 : K a0 = some (0, 0)) (k1 : j_J G jm_LP_findChanges d B S 9 [jr_ a0, ji_ 0, ji_ 0, u3] [] (N, K, (j_up M a0 9 0), g) Q) : j_J G jm_LP_findChanges d B S 0 [jr_ a0, u1, u2, u3] [] (N, K, M, g) Q :=
  j_aload_n d_LP_findChanges_0 rfl <| j_iconst d_LP_findChanges_1 <| j_putI d_LP_findChanges_2 f_LP_124 (⟨_, rfl, Or.inl rfl⟩) rfl hk1 <| j_iconst d_LP_findChanges_5 <| j_istore_n d_LP_findChanges_6 rfl rfl <| j_iconst d_LP_findChanges_7 <| j_istore_n d_LP_findChanges_8 rfl rfl <| k1
theorem s_LP_findChanges_9 {G : j_G} {d B S N : Nat} {K : Nat → Option (Nat × Nat)} {M : Nat → Int → Int} {g : Nat → Int → Option Nat} {Q : j_O → j_S → Prop} {a0 y1 y3 : Nat} {x1 x2 : Int} {u3 : j_V} (hk1 : K a0 = some (0, 0)) (hg2 : g a0 3 = some y1) (hk2 : K y1 = some (0, 2)) (hg4 : g y1 0 = some y3) (hk3 : K y3 = some (0, 1)) (r5 : -2147483648 ≤ x1 ∧ x1 ≤ 2147483647 := by omega) (r6 : -2147483648 ≤ (M y3 1) ∧ (M y3 1) ≤ 2147483647 := by omega) (k1 : x1 < (M y3 1) → j_J G jm_LP_findChanges d B S 37 [jr_ a0, ji_ x1, ji_ x2, u3] [] (N, K, M, g) Q) (k2 : (M y3 1) ≤ x1 → j_J G jm_LP_findChanges d B S 23 [jr_ a0, ji_ x1, ji_ x2, u3] [] (N, K, M, g) Q) : j_J G jm_LP_findChanges d B S 9 [jr_ a0, ji_ x1, ji_ x2, u3] [] (N, K, M, g) Q :=
  j_iload_n d_LP_findChanges_9 rfl <| j_aload_n d_LP_findChanges_10 rfl <| j_getR d_LP_findChanges_11 f_LP_40 hk1 hg2 <| j_getR d_LP_findChanges_14 f_LP_104 hk2 hg4 <| j_getI d_LP_findChanges_17 f_LP_85 hk3 <| j_icmp_lt d_LP_findChanges_20 r5 r6 k1 k2
theorem s_LP_findChanges_23 {G : j_G} {d B S N : Nat} {K : Nat → Option (Nat × Nat)} {M : Nat → Int → Int} {g : Nat → Int → Option Nat} {Q : j_O → j_S → Prop} {a0 y1 y3 : Nat} {x1 x2 : Int} {u3 : j_V} (hk1 : K a0 = some (0, 0)) (hg2 : g a0 3 = some y1) (hk2 : K y1 = some (0, 2)) (hg4 : g y1 1 = some y3) (hk3 : K y3 = some (0, 1)) (r5 : -2147483648 ≤ x2 ∧ x2 ≤ 2147483647 := by omega) (r6 : -2147483648 ≤ (M y3 1) ∧ (M y3 1) ≤ 2147483647 := by omega) (k1 : (M y3 1) ≤ x2 → Q (.inl none) (N, K, M, g)) (k2 : x2 < (M y3 1) → j_J G jm_LP_findChanges d B S 37 [jr_ a0, ji_ x1, ji_ x2, u3] [] (N, K, M, g) Q) : j_J G jm_LP_findChanges d B S 23 [jr_ a0, ji_ x1, ji_ x2, u3] [] (N, K, M, g) Q :=
  j_iload_n d_LP_findChanges_23 rfl <| j_aload_n d_LP_findChanges_24 rfl <| j_getR d_LP_findChanges_25 f_LP_40 hk1 hg2 <| j_getR d_LP_findChanges_28 f_LP_107 hk2 hg4 <| j_getI d_LP_findChanges_31 f_LP_85 hk3 <| j_icmp_ge d_LP_findChanges_34 r5 r6 (fun h => j_vreturn d_LP_findChanges_185 rfl <| k1 h) k2
theorem s_LP_findChanges_37 {G : j_G} {d B S N : Nat} {K : Nat → Option (Nat × Nat)} {M : Nat → Int → Int} {g : Nat → Int → Option Nat} {Q : j_O → j_S → Prop} {a0 y1 y3 : Nat} {x1 x2 : Int} {u3 : j_V} (hk1 : K a0 = some (0, 0)) (hg2 : g a0 3 = some y1) (hk2 : K y1 = some (0, 2)) (hg4 : g y1 0 = some y3) (hk3 : K y3 = some (0, 1)) (r5 : -2147483648 ≤ x1 ∧ x1 ≤ 2147483647 := by omega) (r6 : -2147483648 ≤ (M y3 1) ∧ (M y3 1) ≤ 2147483647 := by omega) (k1 : (M y3 1) ≤ x1 → j_J G jm_LP_findChanges d B S 73 [jr_ a0, ji_ x1, ji_ x2, u3] [] (N, K, M, g) Q) (k2 : x1 < (M y3 1) → j_J G jm_LP_findChanges d B S 51 [jr_ a0, ji_ x1, ji_ x2, u3] [] (N, K, M, g) Q) : j_J G jm_LP_findChanges d B S 37 [jr_ a0, ji_ x1, ji_ x2, u3] [] (N, K, M, g) Q :=
  j_iload_n d_LP_findChanges_37 rfl <| j_aload_n d_LP_findChanges_38 rfl <| j_getR d_LP_findChanges_39 f_LP_40 hk1 hg2 <| j_getR d_LP_findChanges_42 f_LP_104 hk2 hg4 <| j_getI d_LP_findChanges_45 f_LP_85 hk3 <| j_icmp_ge d_LP_findChanges_48 r5 r6 k1 k2
theorem s_LP_findChanges_51 {G : j_G} {d B S N : Nat} {K : Nat → Option (Nat × Nat)} {M : Nat → Int → Int} {g : Nat → Int → Option Nat} {Q : j_O → j_S → Prop} {a0 y1 y3 n3 : Nat} {x1 x2 : Int} {u3 : j_V} (hk1 : K a0 = some (0, 0)) (hg2 : g a0 3 = some y1) (hk2 : K y1 = some (0, 2)) (hg4 : g y1 2 = some y3) (hk3 : K y3 = some (2, n3)) (r5 : 0 ≤ x1 := by omega) (r5' : x1 < (n3 : Int) := by omega) (r6 : -2147483648 ≤ (M y3 x1) ∧ (M y3 x1) ≤ 2147483647 := by omega) (r7 : -2147483648 ≤ x2 ∧ x2 ≤ 2147483647 := by omega) (k1 : (M y3 x1) ≠ x2 → j_J G jm_LP_findChanges d B S 73 [jr_ a0, ji_ x1, ji_ x2, u3] [] (N, K, M, g) Q) (k2 : (M y3 x1) = x2 → j_J G jm_LP_findChanges d B S 9 [jr_ a0, ji_ (x1 + 1), ji_ (x2 + 1), u3] [] (N, K, M, g) Q) : j_J G jm_LP_findChanges d B S 51 [jr_ a0, ji_ x1, ji_ x2, u3] [] (N, K, M, g) Q :=
  j_aload_n d_LP_findChanges_51 rfl <| j_getR d_LP_findChanges_52 f_LP_40 hk1 hg2 <| j_getR d_LP_findChanges_55 f_LP_121 hk2 hg4 <| j_iload_n d_LP_findChanges_58 rfl <| j_bald d_LP_findChanges_59 hk3 r5 r5' <| j_iload_n d_LP_findChanges_60 rfl <| j_icmp_ne d_LP_findChanges_61 r6 r7 k1 (fun h => j_iinc d_LP_findChanges_64 rfl rfl rfl <| j_iinc d_LP_findChanges_67 rfl rfl rfl <| j_goto d_LP_findChanges_70 <| k2 h)
theorem s_LP_findChanges_64 {G : j_G} {d B S N : Nat} {K : Nat → Option (Nat × Nat)} {M : Nat → Int → Int} {g : Nat → Int → Option Nat} {Q : j_O → j_S → Prop} {a0 : Nat} {x1 x2 : Int} {u3 : j_V}  (k1 : j_J G jm_LP_findChanges d B S 9 [jr_ a0, ji_ (x1 + 1), ji_ (x2 + 1), u3] [] (N, K, M, g) Q) : j_J G jm_LP_findChanges d B S 64 [jr_ a0, ji_ x1, ji_ x2, u3] [] (N, K, M, g) Q :=
  j_iinc d_LP_findChanges_64 rfl rfl rfl <| j_iinc d_LP_findChanges_67 rfl rfl rfl <| j_goto d_LP_findChanges_70 k1
theorem s_LP_findChanges_73 {G : j_G} {d B S N : Nat} {K : Nat → Option (Nat × Nat)} {M : Nat → Int → Int} {g : Nat → Int → Option Nat} {Q : j_O → j_S → Prop} {a0 y1 n2 tg2 y4 : Nat} {x1 x2 : Int} {u3 : j_V} (hk1 : K a0 = some (0, 0)) (hg2 : g a0 8 = some y1) (hk2 : K y1 = some (tg2 + 3, n2)) (r3 : 0 ≤ (M a0 9) := by omega) (r3' : (M a0 9) < (n2 : Int) := by omega) (hg5 : g y1 (M a0 9) = some y4) (hk3 : K y4 = some (0, 5)) (k1 : j_J G jm_LP_findChanges d B S 93 [jr_ a0, ji_ x1, ji_ x2, jr_ y4] [] (N, K, (j_up (j_up M y4 0 x1) y4 2 x2), g) Q) : j_J G jm_LP_findChanges d B S 73 [jr_ a0, ji_ x1, ji_ x2, u3] [] (N, K, M, g) Q :=
  j_aload_n d_LP_findChanges_73 rfl <| j_getR d_LP_findChanges_74 f_LP_57 hk1 hg2 <| j_aload_n d_LP_findChanges_77 rfl <| j_getI d_LP_findChanges_78 f_LP_124 hk1 <| j_aald d_LP_findChanges_81 hk2 r3 r3' hg5 <| j_astore_n d_LP_findChanges_82 rfl rfl <| j_aload_n d_LP_findChanges_83 rfl <| j_iload_n d_LP_findChanges_84 rfl <| j_putI d_LP_findChanges_85 f_LP_127 (⟨_, rfl, Or.inl rfl⟩) rfl hk3 <| j_aload_n d_LP_findChanges_88 rfl <| j_iload_n d_LP_findChanges_89 rfl <| j_putI d_LP_findChanges_90 f_LP_129 (⟨_, rfl, Or.inl rfl⟩) rfl hk3 <| k1
theorem s_LP_findChanges_93 {G : j_G} {d B S N : Nat} {K : Nat → Option (Nat × Nat)} {M : Nat → Int → Int} {g : Nat → Int → Option Nat} {Q : j_O → j_S → Prop} {a0 a3 y1 y3 : Nat} {x1 x2 : Int} (hk1 : K a0 = some (0, 0)) (hg2 : g a0 3 = some y1) (hk2 : K y1 = some (0, 2)) (hg4 : g y1 0 = some y3) (hk3 : K y3 = some (0, 1)) (r5 : -2147483648 ≤ x1 ∧ x1 ≤ 2147483647 := by omega) (r6 : -2147483648 ≤ (M y3 1) ∧ (M y3 1) ≤ 2147483647 := by omega) (k1 : (M y3 1) ≤ x1 → j_J G jm_LP_findChanges d B S 125 [jr_ a0, ji_ x1, ji_ x2, jr_ a3] [] (N, K, M, g) Q) (k2 : x1 < (M y3 1) → j_J G jm_LP_findChanges d B S 107 [jr_ a0, ji_ x1, ji_ x2, jr_ a3] [] (N, K, M, g) Q) : j_J G jm_LP_findChanges d B S 93 [jr_ a0, ji_ x1, ji_ x2, jr_ a3] [] (N, K, M, g) Q :=
  j_iload_n d_LP_findChanges_93 rfl <| j_aload_n d_LP_findChanges_94 rfl <| j_getR d_LP_findChanges_95 f_LP_40 hk1 hg2 <| j_getR d_LP_findChanges_98 f_LP_104 hk2 hg4 <| j_getI d_LP_findChanges_101 f_LP_85 hk3 <| j_icmp_ge d_LP_findChanges_104 r5 r6 k1 k2
theorem s_LP_findChanges_107 {G : j_G} {d B S N : Nat} {K : Nat → Option (Nat × Nat)} {M : Nat → Int → Int} {g : Nat → Int → Option Nat} {Q : j_O → j_S → Prop} {a0 a3 y1 y3 n3 : Nat} {x1 x2 : Int} (hk1 : K a0 = some (0, 0)) (hg2 : g a0 3 = some y1) (hk2 : K y1 = some (0, 2)) (hg4 : g y1 2 = some y3) (hk3 : K y3 = some (2, n3)) (r5 : 0 ≤ x1 := by omega) (r5' : x1 < (n3 : Int) := by omega) (r6 : -2147483648 ≤ (M y3 x1) ∧ (M y3 x1) ≤ 2147483647 := by omega) (k1 : 0 ≤ (M y3 x1) → j_J G jm_LP_findChanges d B S 125 [jr_ a0, ji_ x1, ji_ x2, jr_ a3] [] (N, K, M, g) Q) (k2 : (M y3 x1) < 0 → j_J G jm_LP_findChanges d B S 93 [jr_ a0, ji_ (x1 + 1), ji_ x2, jr_ a3] [] (N, K, M, g) Q) : j_J G jm_LP_findChanges d B S 107 [jr_ a0, ji_ x1, ji_ x2, jr_ a3] [] (N, K, M, g) Q :=
  j_aload_n d_LP_findChanges_107 rfl <| j_getR d_LP_findChanges_108 f_LP_40 hk1 hg2 <| j_getR d_LP_findChanges_111 f_LP_121 hk2 hg4 <| j_iload_n d_LP_findChanges_114 rfl <| j_bald d_LP_findChanges_115 hk3 r5 r5' <| j_if_ge d_LP_findChanges_116 r6 k1 (fun h => j_iinc d_LP_findChanges_119 rfl rfl rfl <| j_goto d_LP_findChanges_122 <| k2 h)
theorem s_LP_findChanges_119 {G : j_G} {d B S N : Nat} {K : Nat → Option (Nat × Nat)} {M : Nat → Int → Int} {g : Nat → Int → Option Nat} {Q : j_O → j_S → Prop} {a0 a3 : Nat} {x1 x2 : Int}  (k1 : j_J G jm_LP_findChanges d B S 93 [jr_ a0, ji_ (x1 + 1), ji_ x2, jr_ a3] [] (N, K, M, g) Q) : j_J G jm_LP_findChanges d B S 119 [jr_ a0, ji_ x1, ji_ x2, jr_ a3] [] (N, K, M, g) Q :=
  j_iinc d_LP_findChanges_119 rfl rfl rfl <| j_goto d_LP_findChanges_122 k1
theorem s_LP_findChanges_125 {G : j_G} {d B S N : Nat} {K : Nat → Option (Nat × Nat)} {M : Nat → Int → Int} {g : Nat → Int → Option Nat} {Q : j_O → j_S → Prop} {a0 a3 y1 y3 : Nat} {x1 x2 : Int} (hk1 : K a0 = some (0, 0)) (hg2 : g a0 3 = some y1) (hk2 : K y1 = some (0, 2)) (hg4 : g y1 0 = some y3) (hk3 : K y3 = some (0, 1)) (r5 : -2147483648 ≤ x1 ∧ x1 ≤ 2147483647 := by omega) (r6 : -2147483648 ≤ (M y3 1) ∧ (M y3 1) ≤ 2147483647 := by omega) (k1 : (M y3 1) ≤ x1 → j_J G jm_LP_findChanges d B S 151 [jr_ a0, ji_ x1, ji_ x2, jr_ a3] [] (N, K, M, g) Q) (k2 : x1 < (M y3 1) → j_J G jm_LP_findChanges d B S 139 [jr_ a0, ji_ x1, ji_ x2, jr_ a3] [] (N, K, M, g) Q) : j_J G jm_LP_findChanges d B S 125 [jr_ a0, ji_ x1, ji_ x2, jr_ a3] [] (N, K, M, g) Q :=
  j_iload_n d_LP_findChanges_125 rfl <| j_aload_n d_LP_findChanges_126 rfl <| j_getR d_LP_findChanges_127 f_LP_40 hk1 hg2 <| j_getR d_LP_findChanges_130 f_LP_104 hk2 hg4 <| j_getI d_LP_findChanges_133 f_LP_85 hk3 <| j_icmp_ge d_LP_findChanges_136 r5 r6 k1 k2
theorem s_LP_findChanges_139 {G : j_G} {d B S N : Nat} {K : Nat → Option (Nat × Nat)} {M : Nat → Int → Int} {g : Nat → Int → Option Nat} {Q : j_O → j_S → Prop} {a0 a3 y1 y3 n3 : Nat} {x1 x2 : Int} (hk1 : K a0 = some (0, 0)) (hg2 : g a0 3 = some y1) (hk2 : K y1 = some (0, 2)) (hg4 : g y1 2 = some y3) (hk3 : K y3 = some (2, n3)) (r5 : 0 ≤ x1 := by omega) (r5' : x1 < (n3 : Int) := by omega) (k1 : j_J G jm_LP_findChanges d B S 161 [jr_ a0, ji_ x1, ji_ x2, jr_ a3] [ji_ (M y3 x1)] (N, K, M, g) Q) : j_J G jm_LP_findChanges d B S 139 [jr_ a0, ji_ x1, ji_ x2, jr_ a3] [] (N, K, M, g) Q :=
  j_aload_n d_LP_findChanges_139 rfl <| j_getR d_LP_findChanges_140 f_LP_40 hk1 hg2 <| j_getR d_LP_findChanges_143 f_LP_121 hk2 hg4 <| j_iload_n d_LP_findChanges_146 rfl <| j_bald d_LP_findChanges_147 hk3 r5 r5' <| j_goto d_LP_findChanges_148 k1
theorem s_LP_findChanges_151 {G : j_G} {d B S N : Nat} {K : Nat → Option (Nat × Nat)} {M : Nat → Int → Int} {g : Nat → Int → Option Nat} {Q : j_O → j_S → Prop} {a0 a3 y1 y3 : Nat} {x1 x2 : Int} (hk1 : K a0 = some (0, 0)) (hg2 : g a0 3 = some y1) (hk2 : K y1 = some (0, 2)) (hg4 : g y1 1 = some y3) (hk3 : K y3 = some (0, 1)) (k1 : j_J G jm_LP_findChanges d B S 161 [jr_ a0, ji_ x1, ji_ x2, jr_ a3] [ji_ (M y3 1)] (N, K, M, g) Q) : j_J G jm_LP_findChanges d B S 151 [jr_ a0, ji_ x1, ji_ x2, jr_ a3] [] (N, K, M, g) Q :=
  j_aload_n d_LP_findChanges_151 rfl <| j_getR d_LP_findChanges_152 f_LP_40 hk1 hg2 <| j_getR d_LP_findChanges_155 f_LP_107 hk2 hg4 <| j_getI d_LP_findChanges_158 f_LP_85 hk3 <| k1
theorem s_LP_findChanges_161 {G : j_G} {d B S N : Nat} {K : Nat → Option (Nat × Nat)} {M : Nat → Int → Int} {g : Nat → Int → Option Nat} {Q : j_O → j_S → Prop} {a0 a3 : Nat} {x1 x2 t0 : Int} (hk1 : K a3 = some (0, 5)) (hk2 : K a0 = some (0, 0)) (k1 : j_J G jm_LP_findChanges d B S 9 [jr_ a0, ji_ x1, ji_ t0, jr_ a3] [] (N, K, (j_up (j_up (j_up M a3 1 x1) a3 3 t0) a0 9 (((j_up (j_up M a3 1 x1) a3 3 t0) a0 9) + 1)), g) Q) : j_J G jm_LP_findChanges d B S 161 [jr_ a0, ji_ x1, ji_ x2, jr_ a3] [ji_ t0] (N, K, M, g) Q :=
  j_istore_n d_LP_findChanges_161 rfl rfl <| j_aload_n d_LP_findChanges_162 rfl <| j_iload_n d_LP_findChanges_163 rfl <| j_putI d_LP_findChanges_164 f_LP_131 (⟨_, rfl, Or.inl rfl⟩) rfl hk1 <| j_aload_n d_LP_findChanges_167 rfl <| j_iload_n d_LP_findChanges_168 rfl <| j_putI d_LP_findChanges_169 f_LP_134 (⟨_, rfl, Or.inl rfl⟩) rfl hk1 <| j_aload_n d_LP_findChanges_172 rfl <| j_dupR d_LP_findChanges_173 <| j_getI d_LP_findChanges_174 f_LP_124 hk2 <| j_iconst d_LP_findChanges_177 <| j_iadd d_LP_findChanges_178 <| j_putI d_LP_findChanges_179 f_LP_124 (⟨_, rfl, Or.inl rfl⟩) rfl hk2 <| j_goto d_LP_findChanges_182 k1
theorem s_LP_findChanges_185 {G : j_G} {d B S N : Nat} {K : Nat → Option (Nat × Nat)} {M : Nat → Int → Int} {g : Nat → Int → Option Nat} {Q : j_O → j_S → Prop} {a0 : Nat} {x1 x2 : Int} {u3 : j_V}  (k1 : Q (.inl none) (N, K, M, g)) : j_J G jm_LP_findChanges d B S 185 [jr_ a0, ji_ x1, ji_ x2, u3] [] (N, K, M, g) Q :=
  j_vreturn d_LP_findChanges_185 rfl k1
theorem s_LP_write_0 {G : j_G} {d B S N : Nat} {K : Nat → Option (Nat × Nat)} {M : Nat → Int → Int} {g : Nat → Int → Option Nat} {Q : j_O → j_S → Prop} {a0 : Nat} {x1 : Int} {u2 u3 u4 : j_V} {q : Int → (Nat → Int → Int) → Prop} (hC : j_Ct G jm_LP_within d 0 0 [ji_ x1, ji_ 0, ji_ 3] (N, K, M, g) (j_pI N K g q)) (k1 : ∀ z M', q z M' → j_J G jm_LP_write (d + 1) B S 6 [jr_ a0, ji_ x1, u2, u3, u4] [ji_ z] (N, K, M', g) Q) : j_J G jm_LP_write (d + 1) B S 0 [jr_ a0, ji_ x1, u2, u3, u4] [] (N, K, M, g) Q :=
  j_iload_n d_LP_write_0 rfl <| j_iconst d_LP_write_1 <| j_iconst d_LP_write_2 <| j_aSI (as := [ji_ x1, ji_ 0, ji_ 3]) (rest := []) d_LP_write_3 c_LP_1 rfl (Nat.le_of_ble_eq_true rfl) hC k1
theorem s_LP_write_6 {G : j_G} {d B S N : Nat} {K : Nat → Option (Nat × Nat)} {M : Nat → Int → Int} {g : Nat → Int → Option Nat} {Q : j_O → j_S → Prop} {a0 : Nat} {x1 t0 : Int} {u2 u3 u4 : j_V} (r1 : -2147483648 ≤ t0 ∧ t0 ≤ 2147483647 := by omega) (k1 : t0 ≠ 0 → j_J G jm_LP_write d B S 11 [jr_ a0, ji_ x1, u2, u3, u4] [] (N, K, M, g) Q) (k2 : t0 = 0 → Q (.inl (some (ji_ (-1)))) (N, K, M, g)) : j_J G jm_LP_write d B S 6 [jr_ a0, ji_ x1, u2, u3, u4] [ji_ t0] (N, K, M, g) Q :=
  j_if_ne d_LP_write_6 r1 k1 (fun h => j_iconst d_LP_write_9 <| j_ireturn d_LP_write_10 rfl <| k2 h)
theorem s_LP_write_9 {G : j_G} {d B S N : Nat} {K : Nat → Option (Nat × Nat)} {M : Nat → Int → Int} {g : Nat → Int → Option Nat} {Q : j_O → j_S → Prop} {a0 : Nat} {x1 : Int} {u2 u3 u4 : j_V}  (k1 : Q (.inl (some (ji_ (-1)))) (N, K, M, g)) : j_J G jm_LP_write d B S 9 [jr_ a0, ji_ x1, u2, u3, u4] [] (N, K, M, g) Q :=
  j_iconst d_LP_write_9 <| j_ireturn d_LP_write_10 rfl k1
theorem s_LP_write_11 {G : j_G} {d B S N : Nat} {K : Nat → Option (Nat × Nat)} {M : Nat → Int → Int} {g : Nat → Int → Option Nat} {Q : j_O → j_S → Prop} {a0 : Nat} {x1 : Int} {u2 u3 u4 : j_V} (hk1 : K a0 = some (0, 0)) (r1 : -2147483648 ≤ (M a0 7) ∧ (M a0 7) ≤ 2147483647 := by omega) (k1 : (M a0 7) ≠ 0 → j_J G jm_LP_write d B S 21 [jr_ a0, ji_ x1, u2, u3, u4] [] (N, K, M, g) Q) (k2 : (M a0 7) = 0 → Q (.inl (some (ji_ (-3)))) (N, K, M, g)) : j_J G jm_LP_write d B S 11 [jr_ a0, ji_ x1, u2, u3, u4] [] (N, K, M, g) Q :=
  j_aload_n d_LP_write_11 rfl <| j_getI d_LP_write_12 f_LP_114 hk1 <| j_if_ne d_LP_write_15 r1 k1 (fun h => j_bipush d_LP_write_18 (by decide) <| j_ireturn d_LP_write_20 rfl <| k2 h)
theorem s_LP_write_18 {G : j_G} {d B S N : Nat} {K : Nat → Option (Nat × Nat)} {M : Nat → Int → Int} {g : Nat → Int → Option Nat} {Q : j_O → j_S → Prop} {a0 : Nat} {x1 : Int} {u2 u3 u4 : j_V}  (k1 : Q (.inl (some (ji_ (-3)))) (N, K, M, g)) : j_J G jm_LP_write d B S 18 [jr_ a0, ji_ x1, u2, u3, u4] [] (N, K, M, g) Q :=
  j_bipush d_LP_write_18 (by decide) <| j_ireturn d_LP_write_20 rfl k1
theorem s_LP_write_21 {G : j_G} {d B S N : Nat} {K : Nat → Option (Nat × Nat)} {M : Nat → Int → Int} {g : Nat → Int → Option Nat} {Q : j_O → j_S → Prop} {a0 : Nat} {x1 : Int} {u2 u3 u4 : j_V} {q : (Nat → Int → Int) → Prop} (hk1 : K a0 = some (0, 0)) (hC : j_Ct G jm_LP_findChanges d 0 0 [jr_ a0] (N, K, M, g) (j_pV N K g q)) (k1 : ∀ M', q M' → j_J G jm_LP_write (d + 1) B S 25 [jr_ a0, ji_ x1, u2, u3, u4] [] (N, K, M', g) Q) : j_J G jm_LP_write (d + 1) B S 21 [jr_ a0, ji_ x1, u2, u3, u4] [] (N, K, M, g) Q :=
  j_aload_n d_LP_write_21 rfl <| j_aVV (as := []) (rest := []) d_LP_write_22 c_LP_137 hk1 rfl (Nat.le_of_ble_eq_true rfl) hC k1
theorem s_LP_write_25 {G : j_G} {d B S N : Nat} {K : Nat → Option (Nat × Nat)} {M : Nat → Int → Int} {g : Nat → Int → Option Nat} {Q : j_O → j_S → Prop} {a0 y1 : Nat} {x1 : Int} {u2 u3 u4 : j_V} (hk1 : K a0 = some (0, 0)) (hg2 : g a0 10 = some y1) (hk2 : K y1 = some (0, 7)) (k1 : j_J G jm_LP_write d B S 37 [jr_ a0, ji_ x1, ji_ 0, ji_ 0, u4] [] (N, K, (j_up M y1 1 0), g) Q) : j_J G jm_LP_write d B S 25 [jr_ a0, ji_ x1, u2, u3, u4] [] (N, K, M, g) Q :=
  j_aload_n d_LP_write_25 rfl <| j_getR d_LP_write_26 f_LP_64 hk1 hg2 <| j_iconst d_LP_write_29 <| j_putI d_LP_write_30 f_LP_140 (⟨_, rfl, Or.inl rfl⟩) rfl hk2 <| j_iconst d_LP_write_33 <| j_istore_n d_LP_write_34 rfl rfl <| j_iconst d_LP_write_35 <| j_istore_n d_LP_write_36 rfl rfl <| k1
theorem s_LP_write_37 {G : j_G} {d B S N : Nat} {K : Nat → Option (Nat × Nat)} {M : Nat → Int → Int} {g : Nat → Int → Option Nat} {Q : j_O → j_S → Prop} {a0 : Nat} {x1 x2 x3 : Int} {u4 : j_V} (hk1 : K a0 = some (0, 0)) (r1 : -2147483648 ≤ x3 ∧ x3 ≤ 2147483647 := by omega) (r2 : -2147483648 ≤ (M a0 9) ∧ (M a0 9) ≤ 2147483647 := by omega) (k1 : (M a0 9) ≤ x3 → Q (.inl (some (ji_ x2))) (N, K, M, g)) (k2 : x3 < (M a0 9) → j_J G jm_LP_write d B S 48 [jr_ a0, ji_ x1, ji_ x2, ji_ x3, ji_ x3] [] (N, K, M, g) Q) : j_J G jm_LP_write d B S 37 [jr_ a0, ji_ x1, ji_ x2, ji_ x3, u4] [] (N, K, M, g) Q :=
  j_iload_n d_LP_write_37 rfl <| j_aload_n d_LP_write_38 rfl <| j_getI d_LP_write_39 f_LP_124 hk1 <| j_icmp_ge d_LP_write_42 r1 r2 (fun h => j_iload_n d_LP_write_113 rfl <| j_ireturn d_LP_write_114 rfl <| k1 h) (fun h => j_iload_n d_LP_write_45 rfl <| j_istore d_LP_write_46 rfl rfl <| k2 h)
theorem s_LP_write_45 {G : j_G} {d B S N : Nat} {K : Nat → Option (Nat × Nat)} {M : Nat → Int → Int} {g : Nat → Int → Option Nat} {Q : j_O → j_S → Prop} {a0 : Nat} {x1 x2 x3 : Int} {u4 : j_V}  (k1 : j_J G jm_LP_write d B S 48 [jr_ a0, ji_ x1, ji_ x2, ji_ x3, ji_ x3] [] (N, K, M, g) Q) : j_J G jm_LP_write d B S 45 [jr_ a0, ji_ x1, ji_ x2, ji_ x3, u4] [] (N, K, M, g) Q :=
  j_iload_n d_LP_write_45 rfl <| j_istore d_LP_write_46 rfl rfl <| k1
theorem s_LP_write_48 {G : j_G} {d B S N : Nat} {K : Nat → Option (Nat × Nat)} {M : Nat → Int → Int} {g : Nat → Int → Option Nat} {Q : j_O → j_S → Prop} {a0 : Nat} {x1 x2 x3 x4 : Int} (hk1 : K a0 = some (0, 0)) (r1 : -2147483648 ≤ (x4 + 1) ∧ (x4 + 1) ≤ 2147483647 := by omega) (r2 : -2147483648 ≤ (M a0 9) ∧ (M a0 9) ≤ 2147483647 := by omega) (k1 : (M a0 9) ≤ (x4 + 1) → j_J G jm_LP_write d B S 94 [jr_ a0, ji_ x1, ji_ x2, ji_ x3, ji_ x4] [] (N, K, M, g) Q) (k2 : (x4 + 1) < (M a0 9) → j_J G jm_LP_write d B S 59 [jr_ a0, ji_ x1, ji_ x2, ji_ x3, ji_ x4] [] (N, K, M, g) Q) : j_J G jm_LP_write d B S 48 [jr_ a0, ji_ x1, ji_ x2, ji_ x3, ji_ x4] [] (N, K, M, g) Q :=
  j_iload d_LP_write_48 rfl <| j_iconst d_LP_write_50 <| j_iadd d_LP_write_51 <| j_aload_n d_LP_write_52 rfl <| j_getI d_LP_write_53 f_LP_124 hk1 <| j_icmp_ge d_LP_write_56 r1 r2 k1 k2
theorem s_LP_write_59 {G : j_G} {d B S N : Nat} {K : Nat → Option (Nat × Nat)} {M : Nat → Int → Int} {g : Nat → Int → Option Nat} {Q : j_O → j_S → Prop} {a0 y1 n2 tg2 y4 n4 tg4 y7 : Nat} {x1 x2 x3 x4 : Int} (hk1 : K a0 = some (0, 0)) (hg2 : g a0 8 = some y1) (hk2 : K y1 = some (tg2 + 3, n2)) (r3 : 0 ≤ (x4 + 1) := by omega) (r3' : (x4 + 1) < (n2 : Int) := by omega) (hg5 : g y1 (x4 + 1) = some y4) (hk3 : K y4 = some (0, 5)) (hk4 : K y1 = some (tg4 + 3, n4)) (r6 : 0 ≤ x4 := by omega) (r6' : x4 < (n4 : Int) := by omega) (hg8 : g y1 x4 = some y7) (hk5 : K y7 = some (0, 5)) (r9 : -2147483648 ≤ ((M y4 0) - (M y7 1)) ∧ ((M y4 0) - (M y7 1)) ≤ 2147483647 := by omega) (r10 : -2147483648 ≤ (2 * x1) ∧ (2 * x1) ≤ 2147483647 := by omega) (k1 : (2 * x1) < ((M y4 0) - (M y7 1)) → j_J G jm_LP_write d B S 94 [jr_ a0, ji_ x1, ji_ x2, ji_ x3, ji_ x4] [] (N, K, M, g) Q) (k2 : ((M y4 0) - (M y7 1)) ≤ (2 * x1) → j_J G jm_LP_write d B S 48 [jr_ a0, ji_ x1, ji_ x2, ji_ x3, ji_ (x4 + 1)] [] (N, K, M, g) Q) : j_J G jm_LP_write d B S 59 [jr_ a0, ji_ x1, ji_ x2, ji_ x3, ji_ x4] [] (N, K, M, g) Q :=
  j_aload_n d_LP_write_59 rfl <| j_getR d_LP_write_60 f_LP_57 hk1 hg2 <| j_iload d_LP_write_63 rfl <| j_iconst d_LP_write_65 <| j_iadd d_LP_write_66 <| j_aald d_LP_write_67 hk2 r3 r3' hg5 <| j_getI d_LP_write_68 f_LP_127 hk3 <| j_aload_n d_LP_write_71 rfl <| j_getR d_LP_write_72 f_LP_57 hk1 hg2 <| j_iload d_LP_write_75 rfl <| j_aald d_LP_write_77 hk4 r6 r6' hg8 <| j_getI d_LP_write_78 f_LP_131 hk5 <| j_isub d_LP_write_81 <| j_iconst d_LP_write_82 <| j_iload_n d_LP_write_83 rfl <| j_imul d_LP_write_84 <| j_icmp_gt d_LP_write_85 r9 r10 k1 (fun h => j_iinc d_LP_write_88 rfl rfl rfl <| j_goto d_LP_write_91 <| k2 h)
theorem s_LP_write_88 {G : j_G} {d B S N : Nat} {K : Nat → Option (Nat × Nat)} {M : Nat → Int → Int} {g : Nat → Int → Option Nat} {Q : j_O → j_S → Prop} {a0 : Nat} {x1 x2 x3 x4 : Int}  (k1 : j_J G jm_LP_write d B S 48 [jr_ a0, ji_ x1, ji_ x2, ji_ x3, ji_ (x4 + 1)] [] (N, K, M, g) Q) : j_J G jm_LP_write d B S 88 [jr_ a0, ji_ x1, ji_ x2, ji_ x3, ji_ x4] [] (N, K, M, g) Q :=
  j_iinc d_LP_write_88 rfl rfl rfl <| j_goto d_LP_write_91 k1
theorem s_LP_write_94 {G : j_G} {d B S N : Nat} {K : Nat → Option (Nat × Nat)} {M : Nat → Int → Int} {g : Nat → Int → Option Nat} {Q : j_O → j_S → Prop} {a0 : Nat} {x1 x2 x3 x4 : Int} {q : (Nat → Int → Int) → Prop} (hk1 : K a0 = some (0, 0)) (hC : j_Ct G jm_LP_writeHunk d 0 0 [jr_ a0, ji_ x3, ji_ x4, ji_ x1] (N, K, M, g) (j_pV N K g q)) (k1 : ∀ M', q M' → j_J G jm_LP_write (d + 1) B S 102 [jr_ a0, ji_ x1, ji_ x2, ji_ x3, ji_ x4] [] (N, K, M', g) Q) : j_J G jm_LP_write (d + 1) B S 94 [jr_ a0, ji_ x1, ji_ x2, ji_ x3, ji_ x4] [] (N, K, M, g) Q :=
  j_aload_n d_LP_write_94 rfl <| j_iload_n d_LP_write_95 rfl <| j_iload d_LP_write_96 rfl <| j_iload_n d_LP_write_98 rfl <| j_aVV (as := [ji_ x3, ji_ x4, ji_ x1]) (rest := []) d_LP_write_99 c_LP_141 hk1 rfl (Nat.le_of_ble_eq_true rfl) hC k1
theorem s_LP_write_102 {G : j_G} {d B S N : Nat} {K : Nat → Option (Nat × Nat)} {M : Nat → Int → Int} {g : Nat → Int → Option Nat} {Q : j_O → j_S → Prop} {a0 : Nat} {x1 x2 x3 x4 : Int}  (k1 : j_J G jm_LP_write d B S 37 [jr_ a0, ji_ x1, ji_ (x2 + 1), ji_ (x4 + 1), ji_ x4] [] (N, K, M, g) Q) : j_J G jm_LP_write d B S 102 [jr_ a0, ji_ x1, ji_ x2, ji_ x3, ji_ x4] [] (N, K, M, g) Q :=
  j_iload d_LP_write_102 rfl <| j_iconst d_LP_write_104 <| j_iadd d_LP_write_105 <| j_istore_n d_LP_write_106 rfl rfl <| j_iinc d_LP_write_107 rfl rfl rfl <| j_goto d_LP_write_110 k1
theorem s_LP_write_113 {G : j_G} {d B S N : Nat} {K : Nat → Option (Nat × Nat)} {M : Nat → Int → Int} {g : Nat → Int → Option Nat} {Q : j_O → j_S → Prop} {a0 : Nat} {x1 x2 x3 : Int} {u4 : j_V}  (k1 : Q (.inl (some (ji_ x2))) (N, K, M, g)) : j_J G jm_LP_write d B S 113 [jr_ a0, ji_ x1, ji_ x2, ji_ x3, u4] [] (N, K, M, g) Q :=
  j_iload_n d_LP_write_113 rfl <| j_ireturn d_LP_write_114 rfl k1
theorem s_LP_writeHunk_0 {G : j_G} {d B S N : Nat} {K : Nat → Option (Nat × Nat)} {M : Nat → Int → Int} {g : Nat → Int → Option Nat} {Q : j_O → j_S → Prop} {a0 y1 n2 tg2 y4 : Nat} {x1 x2 x3 : Int} {u4 u5 u6 u7 u8 u9 u10 : j_V} {q : Int → (Nat → Int → Int) → Prop} (hk1 : K a0 = some (0, 0)) (hg2 : g a0 8 = some y1) (hk2 : K y1 = some (tg2 + 3, n2)) (r3 : 0 ≤ x1 := by omega) (r3' : x1 < (n2 : Int) := by omega) (hg5 : g y1 x1 = some y4) (hk3 : K y4 = some (0, 5)) (hC : j_Ct G jm_Ma_min d 0 0 [ji_ x3, ji_ (M y4 0)] (N, K, M, g) (j_pI N K g q)) (k1 : ∀ z M', q z M' → j_J G jm_LP_writeHunk (d + 1) B S 13 [jr_ a0, ji_ x1, ji_ x2, ji_ x3, u4, u5, u6, u7, u8, u9, u10] [ji_ z] (N, K, M', g) Q) : j_J G jm_LP_writeHunk (d + 1) B S 0 [jr_ a0, ji_ x1, ji_ x2, ji_ x3, u4, u5, u6, u7, u8, u9, u10] [] (N, K, M, g) Q :=
  j_iload_n d_LP_writeHunk_0 rfl <| j_aload_n d_LP_writeHunk_1 rfl <| j_getR d_LP_writeHunk_2 f_LP_57 hk1 hg2 <| j_iload_n d_LP_writeHunk_5 rfl <| j_aald d_LP_writeHunk_6 hk2 r3 r3' hg5 <| j_getI d_LP_writeHunk_7 f_LP_127 hk3 <| j_aSI (as := [ji_ x3, ji_ (M y4 0)]) (rest := []) d_LP_writeHunk_10 c_LP_145 rfl (Nat.le_of_ble_eq_true rfl) hC k1
theorem s_LP_writeHunk_13 {G : j_G} {d B S N : Nat} {K : Nat → Option (Nat × Nat)} {M : Nat → Int → Int} {g : Nat → Int → Option Nat} {Q : j_O → j_S → Prop} {a0 y1 y3 y5 n4 tg4 y8 : Nat} {x1 x2 x3 t0 : Int} {u4 u5 u6 u7 u8 u9 u10 : j_V} {q : Int → (Nat → Int → Int) → Prop} (hk1 : K a0 = some (0, 0)) (hg2 : g a0 3 = some y1) (hk2 : K y1 = some (0, 2)) (hg4 : g y1 0 = some y3) (hk3 : K y3 = some (0, 1)) (hg6 : g a0 8 = some y5) (hk4 : K y5 = some (tg4 + 3, n4)) (r7 : 0 ≤ x2 := by omega) (r7' : x2 < (n4 : Int) := by omega) (hg9 : g y5 x2 = some y8) (hk5 : K y8 = some (0, 5)) (hC : j_Ct G jm_Ma_min d 0 0 [ji_ x3, ji_ ((M y3 1) - (M y8 1))] (N, K, M, g) (j_pI N K g q)) (k1 : ∀ z M', q z M' → j_J G jm_LP_writeHunk (d + 1) B S 39 [jr_ a0, ji_ x1, ji_ x2, ji_ x3, ji_ t0, u5, u6, u7, u8, u9, u10] [ji_ z] (N, K, M', g) Q) : j_J G jm_LP_writeHunk (d + 1) B S 13 [jr_ a0, ji_ x1, ji_ x2, ji_ x3, u4, u5, u6, u7, u8, u9, u10] [ji_ t0] (N, K, M, g) Q :=
  j_istore d_LP_writeHunk_13 rfl rfl <| j_iload_n d_LP_writeHunk_15 rfl <| j_aload_n d_LP_writeHunk_16 rfl <| j_getR d_LP_writeHunk_17 f_LP_40 hk1 hg2 <| j_getR d_LP_writeHunk_20 f_LP_104 hk2 hg4 <| j_getI d_LP_writeHunk_23 f_LP_85 hk3 <| j_aload_n d_LP_writeHunk_26 rfl <| j_getR d_LP_writeHunk_27 f_LP_57 hk1 hg6 <| j_iload_n d_LP_writeHunk_30 rfl <| j_aald d_LP_writeHunk_31 hk4 r7 r7' hg9 <| j_getI d_LP_writeHunk_32 f_LP_131 hk5 <| j_isub d_LP_writeHunk_35 <| j_aSI (as := [ji_ x3, ji_ ((M y3 1) - (M y8 1))]) (rest := []) d_LP_writeHunk_36 c_LP_145 rfl (Nat.le_of_ble_eq_true rfl) hC k1
theorem s_LP_writeHunk_39 {G : j_G} {d B S N : Nat} {K : Nat → Option (Nat × Nat)} {M : Nat → Int → Int} {g : Nat → Int → Option Nat} {Q : j_O → j_S → Prop} {a0 y1 n2 tg2 y4 n4 tg4 y7 n6 tg6 y10 y12 : Nat} {x1 x2 x3 x4 t0 : Int} {u5 u6 u7 u8 u9 u10 : j_V} {q : (Nat → Int → Int) → Prop} (hk1 : K a0 = some (0, 0)) (hg2 : g a0 8 = some y1) (hk2 : K y1 = some (tg2 + 3, n2)) (r3 : 0 ≤ x1 := by omega) (r3' : x1 < (n2 : Int) := by omega) (hg5 : g y1 x1 = some y4) (hk3 : K y4 = some (0, 5)) (hk4 : K y1 = some (tg4 + 3, n4)) (r6 : 0 ≤ x1 := by omega) (r6' : x1 < (n4 : Int) := by omega) (hg8 : g y1 x1 = some y7) (hk5 : K y7 = some (0, 5)) (hk6 : K y1 = some (tg6 + 3, n6)) (r9 : 0 ≤ x2 := by omega) (r9' : x2 < (n6 : Int) := by omega) (hg11 : g y1 x2 = some y10) (hk7 : K y10 = some (0, 5)) (hg13 : g a0 10 = some y12) (hk8 : K y12 = some (0, 7)) (hC : j_Ct G jm_Pp_put d 0 0 [jr_ y12, ji_ 64] (N, K, M, g) (j_pV N K g q)) (k1 : ∀ M', q M' → j_J G jm_LP_writeHunk (d + 1) B S 92 [jr_ a0, ji_ x1, ji_ x2, ji_ x3, ji_ x4, ji_ t0, ji_ ((M y4 0) - x4), ji_ ((M y7 2) - x4), ji_ ((M y10 1) + t0), u9, u10] [] (N, K, M', g) Q) : j_J G jm_LP_writeHunk (d + 1) B S 39 [jr_ a0, ji_ x1, ji_ x2, ji_ x3, ji_ x4, u5, u6, u7, u8, u9, u10] [ji_ t0] (N, K, M, g) Q :=
  j_istore d_LP_writeHunk_39 rfl rfl <| j_aload_n d_LP_writeHunk_41 rfl <| j_getR d_LP_writeHunk_42 f_LP_57 hk1 hg2 <| j_iload_n d_LP_writeHunk_45 rfl <| j_aald d_LP_writeHunk_46 hk2 r3 r3' hg5 <| j_getI d_LP_writeHunk_47 f_LP_127 hk3 <| j_iload d_LP_writeHunk_50 rfl <| j_isub d_LP_writeHunk_52 <| j_istore d_LP_writeHunk_53 rfl rfl <| j_aload_n d_LP_writeHunk_55 rfl <| j_getR d_LP_writeHunk_56 f_LP_57 hk1 hg2 <| j_iload_n d_LP_writeHunk_59 rfl <| j_aald d_LP_writeHunk_60 hk4 r6 r6' hg8 <| j_getI d_LP_writeHunk_61 f_LP_129 hk5 <| j_iload d_LP_writeHunk_64 rfl <| j_isub d_LP_writeHunk_66 <| j_istore d_LP_writeHunk_67 rfl rfl <| j_aload_n d_LP_writeHunk_69 rfl <| j_getR d_LP_writeHunk_70 f_LP_57 hk1 hg2 <| j_iload_n d_LP_writeHunk_73 rfl <| j_aald d_LP_writeHunk_74 hk6 r9 r9' hg11 <| j_getI d_LP_writeHunk_75 f_LP_131 hk7 <| j_iload d_LP_writeHunk_78 rfl <| j_iadd d_LP_writeHunk_80 <| j_istore d_LP_writeHunk_81 rfl rfl <| j_aload_n d_LP_writeHunk_83 rfl <| j_getR d_LP_writeHunk_84 f_LP_64 hk1 hg13 <| j_bipush d_LP_writeHunk_87 (by decide) <| j_aVV (as := [ji_ 64]) (rest := []) d_LP_writeHunk_89 c_LP_151 hk8 rfl (Nat.le_of_ble_eq_true rfl) hC k1
theorem s_LP_writeHunk_92 {G : j_G} {d B S N : Nat} {K : Nat → Option (Nat × Nat)} {M : Nat → Int → Int} {g : Nat → Int → Option Nat} {Q : j_O → j_S → Prop} {a0 y1 : Nat} {x1 x2 x3 x4 x5 x6 x7 x8 : Int} {u9 u10 : j_V} {q : (Nat → Int → Int) → Prop} (hk1 : K a0 = some (0, 0)) (hg2 : g a0 10 = some y1) (hk2 : K y1 = some (0, 7)) (hC : j_Ct G jm_Pp_number d 0 0 [jr_ y1, ji_ x6] (N, K, M, g) (j_pV N K g q)) (k1 : ∀ M', q M' → j_J G jm_LP_writeHunk (d + 1) B S 101 [jr_ a0, ji_ x1, ji_ x2, ji_ x3, ji_ x4, ji_ x5, ji_ x6, ji_ x7, ji_ x8, u9, u10] [] (N, K, M', g) Q) : j_J G jm_LP_writeHunk (d + 1) B S 92 [jr_ a0, ji_ x1, ji_ x2, ji_ x3, ji_ x4, ji_ x5, ji_ x6, ji_ x7, ji_ x8, u9, u10] [] (N, K, M, g) Q :=
  j_aload_n d_LP_writeHunk_92 rfl <| j_getR d_LP_writeHunk_93 f_LP_64 hk1 hg2 <| j_iload d_LP_writeHunk_96 rfl <| j_aVV (as := [ji_ x6]) (rest := []) d_LP_writeHunk_98 c_LP_154 hk2 rfl (Nat.le_of_ble_eq_true rfl) hC k1
theorem s_LP_writeHunk_101 {G : j_G} {d B S N : Nat} {K : Nat → Option (Nat × Nat)} {M : Nat → Int → Int} {g : Nat → Int → Option Nat} {Q : j_O → j_S → Prop} {a0 y1 : Nat} {x1 x2 x3 x4 x5 x6 x7 x8 : Int} {u9 u10 : j_V} {q : (Nat → Int → Int) → Prop} (hk1 : K a0 = some (0, 0)) (hg2 : g a0 10 = some y1) (hk2 : K y1 = some (0, 7)) (hC : j_Ct G jm_Pp_put d 0 0 [jr_ y1, ji_ 44] (N, K, M, g) (j_pV N K g q)) (k1 : ∀ M', q M' → j_J G jm_LP_writeHunk (d + 1) B S 110 [jr_ a0, ji_ x1, ji_ x2, ji_ x3, ji_ x4, ji_ x5, ji_ x6, ji_ x7, ji_ x8, u9, u10] [] (N, K, M', g) Q) : j_J G jm_LP_writeHunk (d + 1) B S 101 [jr_ a0, ji_ x1, ji_ x2, ji_ x3, ji_ x4, ji_ x5, ji_ x6, ji_ x7, ji_ x8, u9, u10] [] (N, K, M, g) Q :=
  j_aload_n d_LP_writeHunk_101 rfl <| j_getR d_LP_writeHunk_102 f_LP_64 hk1 hg2 <| j_bipush d_LP_writeHunk_105 (by decide) <| j_aVV (as := [ji_ 44]) (rest := []) d_LP_writeHunk_107 c_LP_151 hk2 rfl (Nat.le_of_ble_eq_true rfl) hC k1
theorem s_LP_writeHunk_110 {G : j_G} {d B S N : Nat} {K : Nat → Option (Nat × Nat)} {M : Nat → Int → Int} {g : Nat → Int → Option Nat} {Q : j_O → j_S → Prop} {a0 y1 : Nat} {x1 x2 x3 x4 x5 x6 x7 x8 : Int} {u9 u10 : j_V} {q : (Nat → Int → Int) → Prop} (hk1 : K a0 = some (0, 0)) (hg2 : g a0 10 = some y1) (hk2 : K y1 = some (0, 7)) (hC : j_Ct G jm_Pp_number d 0 0 [jr_ y1, ji_ (x8 - x6)] (N, K, M, g) (j_pV N K g q)) (k1 : ∀ M', q M' → j_J G jm_LP_writeHunk (d + 1) B S 122 [jr_ a0, ji_ x1, ji_ x2, ji_ x3, ji_ x4, ji_ x5, ji_ x6, ji_ x7, ji_ x8, u9, u10] [] (N, K, M', g) Q) : j_J G jm_LP_writeHunk (d + 1) B S 110 [jr_ a0, ji_ x1, ji_ x2, ji_ x3, ji_ x4, ji_ x5, ji_ x6, ji_ x7, ji_ x8, u9, u10] [] (N, K, M, g) Q :=
  j_aload_n d_LP_writeHunk_110 rfl <| j_getR d_LP_writeHunk_111 f_LP_64 hk1 hg2 <| j_iload d_LP_writeHunk_114 rfl <| j_iload d_LP_writeHunk_116 rfl <| j_isub d_LP_writeHunk_118 <| j_aVV (as := [ji_ (x8 - x6)]) (rest := []) d_LP_writeHunk_119 c_LP_154 hk2 rfl (Nat.le_of_ble_eq_true rfl) hC k1
theorem s_LP_writeHunk_122 {G : j_G} {d B S N : Nat} {K : Nat → Option (Nat × Nat)} {M : Nat → Int → Int} {g : Nat → Int → Option Nat} {Q : j_O → j_S → Prop} {a0 y1 : Nat} {x1 x2 x3 x4 x5 x6 x7 x8 : Int} {u9 u10 : j_V} {q : (Nat → Int → Int) → Prop} (hk1 : K a0 = some (0, 0)) (hg2 : g a0 10 = some y1) (hk2 : K y1 = some (0, 7)) (hC : j_Ct G jm_Pp_put d 0 0 [jr_ y1, ji_ 32] (N, K, M, g) (j_pV N K g q)) (k1 : ∀ M', q M' → j_J G jm_LP_writeHunk (d + 1) B S 131 [jr_ a0, ji_ x1, ji_ x2, ji_ x3, ji_ x4, ji_ x5, ji_ x6, ji_ x7, ji_ x8, u9, u10] [] (N, K, M', g) Q) : j_J G jm_LP_writeHunk (d + 1) B S 122 [jr_ a0, ji_ x1, ji_ x2, ji_ x3, ji_ x4, ji_ x5, ji_ x6, ji_ x7, ji_ x8, u9, u10] [] (N, K, M, g) Q :=
  j_aload_n d_LP_writeHunk_122 rfl <| j_getR d_LP_writeHunk_123 f_LP_64 hk1 hg2 <| j_bipush d_LP_writeHunk_126 (by decide) <| j_aVV (as := [ji_ 32]) (rest := []) d_LP_writeHunk_128 c_LP_151 hk2 rfl (Nat.le_of_ble_eq_true rfl) hC k1
theorem s_LP_writeHunk_131 {G : j_G} {d B S N : Nat} {K : Nat → Option (Nat × Nat)} {M : Nat → Int → Int} {g : Nat → Int → Option Nat} {Q : j_O → j_S → Prop} {a0 y1 : Nat} {x1 x2 x3 x4 x5 x6 x7 x8 : Int} {u9 u10 : j_V} {q : (Nat → Int → Int) → Prop} (hk1 : K a0 = some (0, 0)) (hg2 : g a0 10 = some y1) (hk2 : K y1 = some (0, 7)) (hC : j_Ct G jm_Pp_number d 0 0 [jr_ y1, ji_ x7] (N, K, M, g) (j_pV N K g q)) (k1 : ∀ M', q M' → j_J G jm_LP_writeHunk (d + 1) B S 140 [jr_ a0, ji_ x1, ji_ x2, ji_ x3, ji_ x4, ji_ x5, ji_ x6, ji_ x7, ji_ x8, u9, u10] [] (N, K, M', g) Q) : j_J G jm_LP_writeHunk (d + 1) B S 131 [jr_ a0, ji_ x1, ji_ x2, ji_ x3, ji_ x4, ji_ x5, ji_ x6, ji_ x7, ji_ x8, u9, u10] [] (N, K, M, g) Q :=
  j_aload_n d_LP_writeHunk_131 rfl <| j_getR d_LP_writeHunk_132 f_LP_64 hk1 hg2 <| j_iload d_LP_writeHunk_135 rfl <| j_aVV (as := [ji_ x7]) (rest := []) d_LP_writeHunk_137 c_LP_154 hk2 rfl (Nat.le_of_ble_eq_true rfl) hC k1
theorem s_LP_writeHunk_140 {G : j_G} {d B S N : Nat} {K : Nat → Option (Nat × Nat)} {M : Nat → Int → Int} {g : Nat → Int → Option Nat} {Q : j_O → j_S → Prop} {a0 y1 : Nat} {x1 x2 x3 x4 x5 x6 x7 x8 : Int} {u9 u10 : j_V} {q : (Nat → Int → Int) → Prop} (hk1 : K a0 = some (0, 0)) (hg2 : g a0 10 = some y1) (hk2 : K y1 = some (0, 7)) (hC : j_Ct G jm_Pp_put d 0 0 [jr_ y1, ji_ 44] (N, K, M, g) (j_pV N K g q)) (k1 : ∀ M', q M' → j_J G jm_LP_writeHunk (d + 1) B S 149 [jr_ a0, ji_ x1, ji_ x2, ji_ x3, ji_ x4, ji_ x5, ji_ x6, ji_ x7, ji_ x8, u9, u10] [] (N, K, M', g) Q) : j_J G jm_LP_writeHunk (d + 1) B S 140 [jr_ a0, ji_ x1, ji_ x2, ji_ x3, ji_ x4, ji_ x5, ji_ x6, ji_ x7, ji_ x8, u9, u10] [] (N, K, M, g) Q :=
  j_aload_n d_LP_writeHunk_140 rfl <| j_getR d_LP_writeHunk_141 f_LP_64 hk1 hg2 <| j_bipush d_LP_writeHunk_144 (by decide) <| j_aVV (as := [ji_ 44]) (rest := []) d_LP_writeHunk_146 c_LP_151 hk2 rfl (Nat.le_of_ble_eq_true rfl) hC k1
theorem s_LP_writeHunk_149 {G : j_G} {d B S N : Nat} {K : Nat → Option (Nat × Nat)} {M : Nat → Int → Int} {g : Nat → Int → Option Nat} {Q : j_O → j_S → Prop} {a0 y1 y3 n2 tg2 y6 : Nat} {x1 x2 x3 x4 x5 x6 x7 x8 : Int} {u9 u10 : j_V} {q : (Nat → Int → Int) → Prop} (hk1 : K a0 = some (0, 0)) (hg2 : g a0 10 = some y1) (hg4 : g a0 8 = some y3) (hk2 : K y3 = some (tg2 + 3, n2)) (r5 : 0 ≤ x2 := by omega) (r5' : x2 < (n2 : Int) := by omega) (hg7 : g y3 x2 = some y6) (hk3 : K y6 = some (0, 5)) (hk4 : K y1 = some (0, 7)) (hC : j_Ct G jm_Pp_number d 0 0 [jr_ y1, ji_ (((M y6 3) + x5) - x7)] (N, K, M, g) (j_pV N K g q)) (k1 : ∀ M', q M' → j_J G jm_LP_writeHunk (d + 1) B S 171 [jr_ a0, ji_ x1, ji_ x2, ji_ x3, ji_ x4, ji_ x5, ji_ x6, ji_ x7, ji_ x8, u9, u10] [] (N, K, M', g) Q) : j_J G jm_LP_writeHunk (d + 1) B S 149 [jr_ a0, ji_ x1, ji_ x2, ji_ x3, ji_ x4, ji_ x5, ji_ x6, ji_ x7, ji_ x8, u9, u10] [] (N, K, M, g) Q :=
  j_aload_n d_LP_writeHunk_149 rfl <| j_getR d_LP_writeHunk_150 f_LP_64 hk1 hg2 <| j_aload_n d_LP_writeHunk_153 rfl <| j_getR d_LP_writeHunk_154 f_LP_57 hk1 hg4 <| j_iload_n d_LP_writeHunk_157 rfl <| j_aald d_LP_writeHunk_158 hk2 r5 r5' hg7 <| j_getI d_LP_writeHunk_159 f_LP_134 hk3 <| j_iload d_LP_writeHunk_162 rfl <| j_iadd d_LP_writeHunk_164 <| j_iload d_LP_writeHunk_165 rfl <| j_isub d_LP_writeHunk_167 <| j_aVV (as := [ji_ (((M y6 3) + x5) - x7)]) (rest := []) d_LP_writeHunk_168 c_LP_154 hk4 rfl (Nat.le_of_ble_eq_true rfl) hC k1
theorem s_LP_writeHunk_171 {G : j_G} {d B S N : Nat} {K : Nat → Option (Nat × Nat)} {M : Nat → Int → Int} {g : Nat → Int → Option Nat} {Q : j_O → j_S → Prop} {a0 y1 : Nat} {x1 x2 x3 x4 x5 x6 x7 x8 : Int} {u9 u10 : j_V} {q : (Nat → Int → Int) → Prop} (hk1 : K a0 = some (0, 0)) (hg2 : g a0 10 = some y1) (hk2 : K y1 = some (0, 7)) (hC : j_Ct G jm_Pp_put d 0 0 [jr_ y1, ji_ 10] (N, K, M, g) (j_pV N K g q)) (k1 : ∀ M', q M' → j_J G jm_LP_writeHunk (d + 1) B S 180 [jr_ a0, ji_ x1, ji_ x2, ji_ x3, ji_ x4, ji_ x5, ji_ x6, ji_ x7, ji_ x8, u9, u10] [] (N, K, M', g) Q) : j_J G jm_LP_writeHunk (d + 1) B S 171 [jr_ a0, ji_ x1, ji_ x2, ji_ x3, ji_ x4, ji_ x5, ji_ x6, ji_ x7, ji_ x8, u9, u10] [] (N, K, M, g) Q :=
  j_aload_n d_LP_writeHunk_171 rfl <| j_getR d_LP_writeHunk_172 f_LP_64 hk1 hg2 <| j_bipush d_LP_writeHunk_175 (by decide) <| j_aVV (as := [ji_ 10]) (rest := []) d_LP_writeHunk_177 c_LP_151 hk2 rfl (Nat.le_of_ble_eq_true rfl) hC k1
theorem s_LP_writeHunk_180 {G : j_G} {d B S N : Nat} {K : Nat → Option (Nat × Nat)} {M : Nat → Int → Int} {g : Nat → Int → Option Nat} {Q : j_O → j_S → Prop} {a0 : Nat} {x1 x2 x3 x4 x5 x6 x7 x8 : Int} {u9 u10 : j_V}  (k1 : j_J G jm_LP_writeHunk d B S 183 [jr_ a0, ji_ x1, ji_ x2, ji_ x3, ji_ x4, ji_ x5, ji_ x6, ji_ x7, ji_ x8, ji_ x1, u10] [] (N, K, M, g) Q) : j_J G jm_LP_writeHunk d B S 180 [jr_ a0, ji_ x1, ji_ x2, ji_ x3, ji_ x4, ji_ x5, ji_ x6, ji_ x7, ji_ x8, u9, u10] [] (N, K, M, g) Q :=
  j_iload_n d_LP_writeHunk_180 rfl <| j_istore d_LP_writeHunk_181 rfl rfl <| k1
theorem s_LP_writeHunk_183 {G : j_G} {d B S N : Nat} {K : Nat → Option (Nat × Nat)} {M : Nat → Int → Int} {g : Nat → Int → Option Nat} {Q : j_O → j_S → Prop} {a0 : Nat} {x1 x2 x3 x4 x5 x6 x7 x8 x9 : Int} {u10 : j_V} (r1 : -2147483648 ≤ x9 ∧ x9 ≤ 2147483647 := by omega) (r2 : -2147483648 ≤ x2 ∧ x2 ≤ 2147483647 := by omega) (k1 : x2 < x9 → j_J G jm_LP_writeHunk d B S 277 [jr_ a0, ji_ x1, ji_ x2, ji_ x3, ji_ x4, ji_ x5, ji_ x6, ji_ x7, ji_ x8, ji_ x9, u10] [] (N, K, M, g) Q) (k2 : x9 ≤ x2 → j_J G jm_LP_writeHunk d B S 189 [jr_ a0, ji_ x1, ji_ x2, ji_ x3, ji_ x4, ji_ x5, ji_ x6, ji_ x7, ji_ x8, ji_ x9, u10] [] (N, K, M, g) Q) : j_J G jm_LP_writeHunk d B S 183 [jr_ a0, ji_ x1, ji_ x2, ji_ x3, ji_ x4, ji_ x5, ji_ x6, ji_ x7, ji_ x8, ji_ x9, u10] [] (N, K, M, g) Q :=
  j_iload d_LP_writeHunk_183 rfl <| j_iload_n d_LP_writeHunk_185 rfl <| j_icmp_gt d_LP_writeHunk_186 r1 r2 k1 k2
theorem s_LP_writeHunk_189 {G : j_G} {d B S N : Nat} {K : Nat → Option (Nat × Nat)} {M : Nat → Int → Int} {g : Nat → Int → Option Nat} {Q : j_O → j_S → Prop} {a0 y1 n2 tg2 y4 y6 y8 : Nat} {x1 x2 x3 x4 x5 x6 x7 x8 x9 : Int} {u10 : j_V} {q : (Nat → Int → Int) → Prop} (hk1 : K a0 = some (0, 0)) (hg2 : g a0 8 = some y1) (hk2 : K y1 = some (tg2 + 3, n2)) (r3 : 0 ≤ x9 := by omega) (r3' : x9 < (n2 : Int) := by omega) (hg5 : g y1 x9 = some y4) (hg7 : g a0 3 = some y6) (hk3 : K y6 = some (0, 2)) (hg9 : g y6 0 = some y8) (hk4 : K y4 = some (0, 5)) (hC : j_Ct G jm_LP_rows d 0 0 [jr_ a0, ji_ 32, jr_ y8, ji_ x6, ji_ (M y4 0)] (N, K, M, g) (j_pV N K g q)) (k1 : ∀ M', q M' → j_J G jm_LP_writeHunk (d + 1) B S 218 [jr_ a0, ji_ x1, ji_ x2, ji_ x3, ji_ x4, ji_ x5, ji_ x6, ji_ x7, ji_ x8, ji_ x9, jr_ y4] [] (N, K, M', g) Q) : j_J G jm_LP_writeHunk (d + 1) B S 189 [jr_ a0, ji_ x1, ji_ x2, ji_ x3, ji_ x4, ji_ x5, ji_ x6, ji_ x7, ji_ x8, ji_ x9, u10] [] (N, K, M, g) Q :=
  j_aload_n d_LP_writeHunk_189 rfl <| j_getR d_LP_writeHunk_190 f_LP_57 hk1 hg2 <| j_iload d_LP_writeHunk_193 rfl <| j_aald d_LP_writeHunk_195 hk2 r3 r3' hg5 <| j_astore d_LP_writeHunk_196 rfl rfl <| j_aload_n d_LP_writeHunk_198 rfl <| j_bipush d_LP_writeHunk_199 (by decide) <| j_aload_n d_LP_writeHunk_201 rfl <| j_getR d_LP_writeHunk_202 f_LP_40 hk1 hg7 <| j_getR d_LP_writeHunk_205 f_LP_104 hk3 hg9 <| j_iload d_LP_writeHunk_208 rfl <| j_aload d_LP_writeHunk_210 rfl <| j_getI d_LP_writeHunk_212 f_LP_127 hk4 <| j_aVV (as := [ji_ 32, jr_ y8, ji_ x6, ji_ (M y4 0)]) (rest := []) d_LP_writeHunk_215 c_LP_157 hk1 rfl (Nat.le_of_ble_eq_true rfl) hC k1
theorem s_LP_writeHunk_218 {G : j_G} {d B S N : Nat} {K : Nat → Option (Nat × Nat)} {M : Nat → Int → Int} {g : Nat → Int → Option Nat} {Q : j_O → j_S → Prop} {a0 a10 y1 y3 : Nat} {x1 x2 x3 x4 x5 x6 x7 x8 x9 : Int} {q : (Nat → Int → Int) → Prop} (hk1 : K a0 = some (0, 0)) (hg2 : g a0 3 = some y1) (hk2 : K y1 = some (0, 2)) (hg4 : g y1 0 = some y3) (hk3 : K a10 = some (0, 5)) (hC : j_Ct G jm_LP_rows d 0 0 [jr_ a0, ji_ 45, jr_ y3, ji_ (M a10 0), ji_ (M a10 1)] (N, K, M, g) (j_pV N K g q)) (k1 : ∀ M', q M' → j_J G jm_LP_writeHunk (d + 1) B S 241 [jr_ a0, ji_ x1, ji_ x2, ji_ x3, ji_ x4, ji_ x5, ji_ x6, ji_ x7, ji_ x8, ji_ x9, jr_ a10] [] (N, K, M', g) Q) : j_J G jm_LP_writeHunk (d + 1) B S 218 [jr_ a0, ji_ x1, ji_ x2, ji_ x3, ji_ x4, ji_ x5, ji_ x6, ji_ x7, ji_ x8, ji_ x9, jr_ a10] [] (N, K, M, g) Q :=
  j_aload_n d_LP_writeHunk_218 rfl <| j_bipush d_LP_writeHunk_219 (by decide) <| j_aload_n d_LP_writeHunk_221 rfl <| j_getR d_LP_writeHunk_222 f_LP_40 hk1 hg2 <| j_getR d_LP_writeHunk_225 f_LP_104 hk2 hg4 <| j_aload d_LP_writeHunk_228 rfl <| j_getI d_LP_writeHunk_230 f_LP_127 hk3 <| j_aload d_LP_writeHunk_233 rfl <| j_getI d_LP_writeHunk_235 f_LP_131 hk3 <| j_aVV (as := [ji_ 45, jr_ y3, ji_ (M a10 0), ji_ (M a10 1)]) (rest := []) d_LP_writeHunk_238 c_LP_157 hk1 rfl (Nat.le_of_ble_eq_true rfl) hC k1
theorem s_LP_writeHunk_241 {G : j_G} {d B S N : Nat} {K : Nat → Option (Nat × Nat)} {M : Nat → Int → Int} {g : Nat → Int → Option Nat} {Q : j_O → j_S → Prop} {a0 a10 y1 y3 : Nat} {x1 x2 x3 x4 x5 x6 x7 x8 x9 : Int} {q : (Nat → Int → Int) → Prop} (hk1 : K a0 = some (0, 0)) (hg2 : g a0 3 = some y1) (hk2 : K y1 = some (0, 2)) (hg4 : g y1 1 = some y3) (hk3 : K a10 = some (0, 5)) (hC : j_Ct G jm_LP_rows d 0 0 [jr_ a0, ji_ 43, jr_ y3, ji_ (M a10 2), ji_ (M a10 3)] (N, K, M, g) (j_pV N K g q)) (k1 : ∀ M', q M' → j_J G jm_LP_writeHunk (d + 1) B S 264 [jr_ a0, ji_ x1, ji_ x2, ji_ x3, ji_ x4, ji_ x5, ji_ x6, ji_ x7, ji_ x8, ji_ x9, jr_ a10] [] (N, K, M', g) Q) : j_J G jm_LP_writeHunk (d + 1) B S 241 [jr_ a0, ji_ x1, ji_ x2, ji_ x3, ji_ x4, ji_ x5, ji_ x6, ji_ x7, ji_ x8, ji_ x9, jr_ a10] [] (N, K, M, g) Q :=
  j_aload_n d_LP_writeHunk_241 rfl <| j_bipush d_LP_writeHunk_242 (by decide) <| j_aload_n d_LP_writeHunk_244 rfl <| j_getR d_LP_writeHunk_245 f_LP_40 hk1 hg2 <| j_getR d_LP_writeHunk_248 f_LP_107 hk2 hg4 <| j_aload d_LP_writeHunk_251 rfl <| j_getI d_LP_writeHunk_253 f_LP_129 hk3 <| j_aload d_LP_writeHunk_256 rfl <| j_getI d_LP_writeHunk_258 f_LP_134 hk3 <| j_aVV (as := [ji_ 43, jr_ y3, ji_ (M a10 2), ji_ (M a10 3)]) (rest := []) d_LP_writeHunk_261 c_LP_157 hk1 rfl (Nat.le_of_ble_eq_true rfl) hC k1
theorem s_LP_writeHunk_264 {G : j_G} {d B S N : Nat} {K : Nat → Option (Nat × Nat)} {M : Nat → Int → Int} {g : Nat → Int → Option Nat} {Q : j_O → j_S → Prop} {a0 a10 : Nat} {x1 x2 x3 x4 x5 x6 x7 x8 x9 : Int} (hk1 : K a10 = some (0, 5)) (k1 : j_J G jm_LP_writeHunk d B S 183 [jr_ a0, ji_ x1, ji_ x2, ji_ x3, ji_ x4, ji_ x5, ji_ (M a10 1), ji_ x7, ji_ x8, ji_ (x9 + 1), jr_ a10] [] (N, K, M, g) Q) : j_J G jm_LP_writeHunk d B S 264 [jr_ a0, ji_ x1, ji_ x2, ji_ x3, ji_ x4, ji_ x5, ji_ x6, ji_ x7, ji_ x8, ji_ x9, jr_ a10] [] (N, K, M, g) Q :=
  j_aload d_LP_writeHunk_264 rfl <| j_getI d_LP_writeHunk_266 f_LP_131 hk1 <| j_istore d_LP_writeHunk_269 rfl rfl <| j_iinc d_LP_writeHunk_271 rfl rfl rfl <| j_goto d_LP_writeHunk_274 k1
theorem s_LP_writeHunk_277 {G : j_G} {d B S N : Nat} {K : Nat → Option (Nat × Nat)} {M : Nat → Int → Int} {g : Nat → Int → Option Nat} {Q : j_O → j_S → Prop} {a0 y1 y3 : Nat} {x1 x2 x3 x4 x5 x6 x7 x8 x9 : Int} {u10 : j_V} {q : (Nat → Int → Int) → Prop} (hk1 : K a0 = some (0, 0)) (hg2 : g a0 3 = some y1) (hk2 : K y1 = some (0, 2)) (hg4 : g y1 0 = some y3) (hC : j_Ct G jm_LP_rows d 0 0 [jr_ a0, ji_ 32, jr_ y3, ji_ x6, ji_ x8] (N, K, M, g) (j_pV N K g q)) (k1 : ∀ M', q M' → j_J G jm_LP_writeHunk (d + 1) B S 294 [jr_ a0, ji_ x1, ji_ x2, ji_ x3, ji_ x4, ji_ x5, ji_ x6, ji_ x7, ji_ x8, ji_ x9, u10] [] (N, K, M', g) Q) : j_J G jm_LP_writeHunk (d + 1) B S 277 [jr_ a0, ji_ x1, ji_ x2, ji_ x3, ji_ x4, ji_ x5, ji_ x6, ji_ x7, ji_ x8, ji_ x9, u10] [] (N, K, M, g) Q :=
  j_aload_n d_LP_writeHunk_277 rfl <| j_bipush d_LP_writeHunk_278 (by decide) <| j_aload_n d_LP_writeHunk_280 rfl <| j_getR d_LP_writeHunk_281 f_LP_40 hk1 hg2 <| j_getR d_LP_writeHunk_284 f_LP_104 hk2 hg4 <| j_iload d_LP_writeHunk_287 rfl <| j_iload d_LP_writeHunk_289 rfl <| j_aVV (as := [ji_ 32, jr_ y3, ji_ x6, ji_ x8]) (rest := []) d_LP_writeHunk_291 c_LP_157 hk1 rfl (Nat.le_of_ble_eq_true rfl) hC k1
theorem s_LP_writeHunk_294 {G : j_G} {d B S N : Nat} {K : Nat → Option (Nat × Nat)} {M : Nat → Int → Int} {g : Nat → Int → Option Nat} {Q : j_O → j_S → Prop} {a0 : Nat} {x1 x2 x3 x4 x5 x6 x7 x8 x9 : Int} {u10 : j_V}  (k1 : Q (.inl none) (N, K, M, g)) : j_J G jm_LP_writeHunk d B S 294 [jr_ a0, ji_ x1, ji_ x2, ji_ x3, ji_ x4, ji_ x5, ji_ x6, ji_ x7, ji_ x8, ji_ x9, u10] [] (N, K, M, g) Q :=
  j_vreturn d_LP_writeHunk_294 rfl k1
theorem s_LP_rows_0 {G : j_G} {d B S N : Nat} {K : Nat → Option (Nat × Nat)} {M : Nat → Int → Int} {g : Nat → Int → Option Nat} {Q : j_O → j_S → Prop} {a0 a2 : Nat} {x1 x3 x4 : Int} {u5 : j_V}  (k1 : j_J G jm_LP_rows d B S 3 [jr_ a0, ji_ x1, jr_ a2, ji_ x3, ji_ x4, ji_ x3] [] (N, K, M, g) Q) : j_J G jm_LP_rows d B S 0 [jr_ a0, ji_ x1, jr_ a2, ji_ x3, ji_ x4, u5] [] (N, K, M, g) Q :=
  j_iload_n d_LP_rows_0 rfl <| j_istore d_LP_rows_1 rfl rfl <| k1
theorem s_LP_rows_3 {G : j_G} {d B S N : Nat} {K : Nat → Option (Nat × Nat)} {M : Nat → Int → Int} {g : Nat → Int → Option Nat} {Q : j_O → j_S → Prop} {a0 a2 : Nat} {x1 x3 x4 x5 : Int} (r1 : -2147483648 ≤ x5 ∧ x5 ≤ 2147483647 := by omega) (r2 : -2147483648 ≤ x4 ∧ x4 ≤ 2147483647 := by omega) (k1 : x4 ≤ x5 → Q (.inl none) (N, K, M, g)) (k2 : x5 < x4 → j_J G jm_LP_rows d B S 10 [jr_ a0, ji_ x1, jr_ a2, ji_ x3, ji_ x4, ji_ x5] [] (N, K, M, g) Q) : j_J G jm_LP_rows d B S 3 [jr_ a0, ji_ x1, jr_ a2, ji_ x3, ji_ x4, ji_ x5] [] (N, K, M, g) Q :=
  j_iload d_LP_rows_3 rfl <| j_iload d_LP_rows_5 rfl <| j_icmp_ge d_LP_rows_7 r1 r2 (fun h => j_vreturn d_LP_rows_47 rfl <| k1 h) k2
theorem s_LP_rows_10 {G : j_G} {d B S N : Nat} {K : Nat → Option (Nat × Nat)} {M : Nat → Int → Int} {g : Nat → Int → Option Nat} {Q : j_O → j_S → Prop} {a0 a2 y1 : Nat} {x1 x3 x4 x5 : Int} {q : (Nat → Int → Int) → Prop} (hk1 : K a0 = some (0, 0)) (hg2 : g a0 10 = some y1) (hk2 : K y1 = some (0, 7)) (hC : j_Ct G jm_Pp_put d 0 0 [jr_ y1, ji_ x1] (N, K, M, g) (j_pV N K g q)) (k1 : ∀ M', q M' → j_J G jm_LP_rows (d + 1) B S 18 [jr_ a0, ji_ x1, jr_ a2, ji_ x3, ji_ x4, ji_ x5] [] (N, K, M', g) Q) : j_J G jm_LP_rows (d + 1) B S 10 [jr_ a0, ji_ x1, jr_ a2, ji_ x3, ji_ x4, ji_ x5] [] (N, K, M, g) Q :=
  j_aload_n d_LP_rows_10 rfl <| j_getR d_LP_rows_11 f_LP_64 hk1 hg2 <| j_iload_n d_LP_rows_14 rfl <| j_aVV (as := [ji_ x1]) (rest := []) d_LP_rows_15 c_LP_151 hk2 rfl (Nat.le_of_ble_eq_true rfl) hC k1
theorem s_LP_rows_18 {G : j_G} {d B S N : Nat} {K : Nat → Option (Nat × Nat)} {M : Nat → Int → Int} {g : Nat → Int → Option Nat} {Q : j_O → j_S → Prop} {a0 a2 y1 y3 n3 : Nat} {x1 x3 x4 x5 : Int} {q : (Nat → Int → Int) → Prop} (hk1 : K a0 = some (0, 0)) (hg2 : g a0 10 = some y1) (hk2 : K a2 = some (0, 1)) (hg4 : g a2 0 = some y3) (hk3 : K y3 = some (2, n3)) (r5 : 0 ≤ x5 := by omega) (r5' : x5 < (n3 : Int) := by omega) (hk4 : K y1 = some (0, 7)) (hC : j_Ct G jm_Pp_put d 0 0 [jr_ y1, ji_ (M y3 x5)] (N, K, M, g) (j_pV N K g q)) (k1 : ∀ M', q M' → j_J G jm_LP_rows (d + 1) B S 32 [jr_ a0, ji_ x1, jr_ a2, ji_ x3, ji_ x4, ji_ x5] [] (N, K, M', g) Q) : j_J G jm_LP_rows (d + 1) B S 18 [jr_ a0, ji_ x1, jr_ a2, ji_ x3, ji_ x4, ji_ x5] [] (N, K, M, g) Q :=
  j_aload_n d_LP_rows_18 rfl <| j_getR d_LP_rows_19 f_LP_64 hk1 hg2 <| j_aload_n d_LP_rows_22 rfl <| j_getR d_LP_rows_23 f_LP_92 hk2 hg4 <| j_iload d_LP_rows_26 rfl <| j_bald d_LP_rows_28 hk3 r5 r5' <| j_aVV (as := [ji_ (M y3 x5)]) (rest := []) d_LP_rows_29 c_LP_151 hk4 rfl (Nat.le_of_ble_eq_true rfl) hC k1
theorem s_LP_rows_32 {G : j_G} {d B S N : Nat} {K : Nat → Option (Nat × Nat)} {M : Nat → Int → Int} {g : Nat → Int → Option Nat} {Q : j_O → j_S → Prop} {a0 a2 y1 : Nat} {x1 x3 x4 x5 : Int} {q : (Nat → Int → Int) → Prop} (hk1 : K a0 = some (0, 0)) (hg2 : g a0 10 = some y1) (hk2 : K y1 = some (0, 7)) (hC : j_Ct G jm_Pp_put d 0 0 [jr_ y1, ji_ 10] (N, K, M, g) (j_pV N K g q)) (k1 : ∀ M', q M' → j_J G jm_LP_rows (d + 1) B S 41 [jr_ a0, ji_ x1, jr_ a2, ji_ x3, ji_ x4, ji_ x5] [] (N, K, M', g) Q) : j_J G jm_LP_rows (d + 1) B S 32 [jr_ a0, ji_ x1, jr_ a2, ji_ x3, ji_ x4, ji_ x5] [] (N, K, M, g) Q :=
  j_aload_n d_LP_rows_32 rfl <| j_getR d_LP_rows_33 f_LP_64 hk1 hg2 <| j_bipush d_LP_rows_36 (by decide) <| j_aVV (as := [ji_ 10]) (rest := []) d_LP_rows_38 c_LP_151 hk2 rfl (Nat.le_of_ble_eq_true rfl) hC k1
theorem s_LP_rows_41 {G : j_G} {d B S N : Nat} {K : Nat → Option (Nat × Nat)} {M : Nat → Int → Int} {g : Nat → Int → Option Nat} {Q : j_O → j_S → Prop} {a0 a2 : Nat} {x1 x3 x4 x5 : Int}  (k1 : j_J G jm_LP_rows d B S 3 [jr_ a0, ji_ x1, jr_ a2, ji_ x3, ji_ x4, ji_ (x5 + 1)] [] (N, K, M, g) Q) : j_J G jm_LP_rows d B S 41 [jr_ a0, ji_ x1, jr_ a2, ji_ x3, ji_ x4, ji_ x5] [] (N, K, M, g) Q :=
  j_iinc d_LP_rows_41 rfl rfl rfl <| j_goto d_LP_rows_44 k1
theorem s_LP_rows_47 {G : j_G} {d B S N : Nat} {K : Nat → Option (Nat × Nat)} {M : Nat → Int → Int} {g : Nat → Int → Option Nat} {Q : j_O → j_S → Prop} {a0 a2 : Nat} {x1 x3 x4 x5 : Int}  (k1 : Q (.inl none) (N, K, M, g)) : j_J G jm_LP_rows d B S 47 [jr_ a0, ji_ x1, jr_ a2, ji_ x3, ji_ x4, ji_ x5] [] (N, K, M, g) Q :=
  j_vreturn d_LP_rows_47 rfl k1
theorem s_LP_type_0 {G : j_G} {d B S N : Nat} {K : Nat → Option (Nat × Nat)} {M : Nat → Int → Int} {g : Nat → Int → Option Nat} {Q : j_O → j_S → Prop} {a0 : Nat} {x3 : Int} {l1 : Int64} {u2 u4 : j_V} {q : Int → (Nat → Int → Int) → Prop} (hC : j_Ct G jm_LP_within d 0 0 [ji_ x3, ji_ 1, ji_ 8] (N, K, M, g) (j_pI N K g q)) (k1 : ∀ z M', q z M' → j_J G jm_LP_type (d + 1) B S 7 [jr_ a0, jl_ l1, u2, ji_ x3, u4] [ji_ z] (N, K, M', g) Q) : j_J G jm_LP_type (d + 1) B S 0 [jr_ a0, jl_ l1, u2, ji_ x3, u4] [] (N, K, M, g) Q :=
  j_iload_n d_LP_type_0 rfl <| j_iconst d_LP_type_1 <| j_bipush d_LP_type_2 (by decide) <| j_aSI (as := [ji_ x3, ji_ 1, ji_ 8]) (rest := []) d_LP_type_4 c_LP_1 rfl (Nat.le_of_ble_eq_true rfl) hC k1
theorem s_LP_type_7 {G : j_G} {d B S N : Nat} {K : Nat → Option (Nat × Nat)} {M : Nat → Int → Int} {g : Nat → Int → Option Nat} {Q : j_O → j_S → Prop} {a0 : Nat} {x3 t0 : Int} {l1 : Int64} {u2 u4 : j_V} (r1 : -2147483648 ≤ t0 ∧ t0 ≤ 2147483647 := by omega) (k1 : t0 ≠ 0 → j_J G jm_LP_type d B S 12 [jr_ a0, jl_ l1, u2, ji_ x3, u4] [] (N, K, M, g) Q) (k2 : t0 = 0 → Q (.inl (some (ji_ (-1)))) (N, K, M, g)) : j_J G jm_LP_type d B S 7 [jr_ a0, jl_ l1, u2, ji_ x3, u4] [ji_ t0] (N, K, M, g) Q :=
  j_if_ne d_LP_type_7 r1 k1 (fun h => j_iconst d_LP_type_10 <| j_ireturn d_LP_type_11 rfl <| k2 h)
theorem s_LP_type_10 {G : j_G} {d B S N : Nat} {K : Nat → Option (Nat × Nat)} {M : Nat → Int → Int} {g : Nat → Int → Option Nat} {Q : j_O → j_S → Prop} {a0 : Nat} {x3 : Int} {l1 : Int64} {u2 u4 : j_V}  (k1 : Q (.inl (some (ji_ (-1)))) (N, K, M, g)) : j_J G jm_LP_type d B S 10 [jr_ a0, jl_ l1, u2, ji_ x3, u4] [] (N, K, M, g) Q :=
  j_iconst d_LP_type_10 <| j_ireturn d_LP_type_11 rfl k1
theorem s_LP_type_12 {G : j_G} {d B S N : Nat} {K : Nat → Option (Nat × Nat)} {M : Nat → Int → Int} {g : Nat → Int → Option Nat} {Q : j_O → j_S → Prop} {a0 y1 : Nat} {x3 : Int} {l1 : Int64} {u2 u4 : j_V} (hk1 : K a0 = some (0, 0)) (hg2 : g a0 10 = some y1) (hk2 : K y1 = some (0, 7)) (r3 : -2147483648 ≤ ((M y1 1) + x3) ∧ ((M y1 1) + x3) ≤ 2147483647 := by omega) (k1 : ((M y1 1) + x3) ≤ 900 → j_J G jm_LP_type d B S 35 [jr_ a0, jl_ l1, u2, ji_ x3, ji_ (x3 - 1)] [] (N, K, M, g) Q) (k2 : 900 < ((M y1 1) + x3) → Q (.inl (some (ji_ (-2)))) (N, K, M, g)) : j_J G jm_LP_type d B S 12 [jr_ a0, jl_ l1, u2, ji_ x3, u4] [] (N, K, M, g) Q :=
  j_aload_n d_LP_type_12 rfl <| j_getR d_LP_type_13 f_LP_64 hk1 hg2 <| j_getI d_LP_type_16 f_LP_140 hk2 <| j_iload_n d_LP_type_19 rfl <| j_iadd d_LP_type_20 <| j_sipush d_LP_type_21 (by decide) <| j_icmp_le d_LP_type_24 r3 (by decide) (fun h => j_iload_n d_LP_type_30 rfl <| j_iconst d_LP_type_31 <| j_isub d_LP_type_32 <| j_istore d_LP_type_33 rfl rfl <| k1 h) (fun h => j_bipush d_LP_type_27 (by decide) <| j_ireturn d_LP_type_29 rfl <| k2 h)
theorem s_LP_type_27 {G : j_G} {d B S N : Nat} {K : Nat → Option (Nat × Nat)} {M : Nat → Int → Int} {g : Nat → Int → Option Nat} {Q : j_O → j_S → Prop} {a0 : Nat} {x3 : Int} {l1 : Int64} {u2 u4 : j_V}  (k1 : Q (.inl (some (ji_ (-2)))) (N, K, M, g)) : j_J G jm_LP_type d B S 27 [jr_ a0, jl_ l1, u2, ji_ x3, u4] [] (N, K, M, g) Q :=
  j_bipush d_LP_type_27 (by decide) <| j_ireturn d_LP_type_29 rfl k1
theorem s_LP_type_30 {G : j_G} {d B S N : Nat} {K : Nat → Option (Nat × Nat)} {M : Nat → Int → Int} {g : Nat → Int → Option Nat} {Q : j_O → j_S → Prop} {a0 : Nat} {x3 : Int} {l1 : Int64} {u2 u4 : j_V}  (k1 : j_J G jm_LP_type d B S 35 [jr_ a0, jl_ l1, u2, ji_ x3, ji_ (x3 - 1)] [] (N, K, M, g) Q) : j_J G jm_LP_type d B S 30 [jr_ a0, jl_ l1, u2, ji_ x3, u4] [] (N, K, M, g) Q :=
  j_iload_n d_LP_type_30 rfl <| j_iconst d_LP_type_31 <| j_isub d_LP_type_32 <| j_istore d_LP_type_33 rfl rfl <| k1
theorem s_LP_type_35 {G : j_G} {d B S N : Nat} {K : Nat → Option (Nat × Nat)} {M : Nat → Int → Int} {g : Nat → Int → Option Nat} {Q : j_O → j_S → Prop} {a0 : Nat} {x3 x4 : Int} {l1 : Int64} {u2 : j_V} (r1 : -2147483648 ≤ x4 ∧ x4 ≤ 2147483647 := by omega) (k1 : x4 < 0 → j_J G jm_LP_type d B S 61 [jr_ a0, jl_ l1, u2, ji_ x3, ji_ x4] [] (N, K, M, g) Q) (k2 : 0 ≤ x4 → j_J G jm_LP_type d B S 40 [jr_ a0, jl_ l1, u2, ji_ x3, ji_ x4] [] (N, K, M, g) Q) : j_J G jm_LP_type d B S 35 [jr_ a0, jl_ l1, u2, ji_ x3, ji_ x4] [] (N, K, M, g) Q :=
  j_iload d_LP_type_35 rfl <| j_if_lt d_LP_type_37 r1 k1 k2
theorem s_LP_type_40 {G : j_G} {d B S N : Nat} {K : Nat → Option (Nat × Nat)} {M : Nat → Int → Int} {g : Nat → Int → Option Nat} {Q : j_O → j_S → Prop} {a0 y1 : Nat} {x3 x4 : Int} {l1 : Int64} {u2 : j_V} {q : (Nat → Int → Int) → Prop} (hk1 : K a0 = some (0, 0)) (hg2 : g a0 10 = some y1) (hk2 : K y1 = some (0, 7)) (hC : j_Ct G jm_Pp_put d 0 0 [jr_ y1, ji_ (l1 >>> ((Int32.ofInt (8 * x4)).toInt64 &&& 63)).toInt32.toInt] (N, K, M, g) (j_pV N K g q)) (k1 : ∀ M', q M' → j_J G jm_LP_type (d + 1) B S 55 [jr_ a0, jl_ l1, u2, ji_ x3, ji_ x4] [] (N, K, M', g) Q) : j_J G jm_LP_type (d + 1) B S 40 [jr_ a0, jl_ l1, u2, ji_ x3, ji_ x4] [] (N, K, M, g) Q :=
  j_aload_n d_LP_type_40 rfl <| j_getR d_LP_type_41 f_LP_64 hk1 hg2 <| j_lload_n d_LP_type_44 rfl <| j_bipush d_LP_type_45 (by decide) <| j_iload d_LP_type_47 rfl <| j_imul d_LP_type_49 <| j_lshr d_LP_type_50 <| j_l2i d_LP_type_51 <| j_aVV (as := [ji_ (l1 >>> ((Int32.ofInt (8 * x4)).toInt64 &&& 63)).toInt32.toInt]) (rest := []) d_LP_type_52 c_LP_151 hk2 rfl (Nat.le_of_ble_eq_true rfl) hC k1
theorem s_LP_type_55 {G : j_G} {d B S N : Nat} {K : Nat → Option (Nat × Nat)} {M : Nat → Int → Int} {g : Nat → Int → Option Nat} {Q : j_O → j_S → Prop} {a0 : Nat} {x3 x4 : Int} {l1 : Int64} {u2 : j_V}  (k1 : j_J G jm_LP_type d B S 35 [jr_ a0, jl_ l1, u2, ji_ x3, ji_ (x4 + (-1))] [] (N, K, M, g) Q) : j_J G jm_LP_type d B S 55 [jr_ a0, jl_ l1, u2, ji_ x3, ji_ x4] [] (N, K, M, g) Q :=
  j_iinc d_LP_type_55 rfl rfl rfl <| j_goto d_LP_type_58 k1
theorem s_LP_type_61 {G : j_G} {d B S N : Nat} {K : Nat → Option (Nat × Nat)} {M : Nat → Int → Int} {g : Nat → Int → Option Nat} {Q : j_O → j_S → Prop} {a0 y1 : Nat} {x3 x4 : Int} {l1 : Int64} {u2 : j_V} (hk1 : K a0 = some (0, 0)) (hg2 : g a0 10 = some y1) (hk2 : K y1 = some (0, 7)) (k1 : Q (.inl (some (ji_ (M y1 1)))) (N, K, M, g)) : j_J G jm_LP_type d B S 61 [jr_ a0, jl_ l1, u2, ji_ x3, ji_ x4] [] (N, K, M, g) Q :=
  j_aload_n d_LP_type_61 rfl <| j_getR d_LP_type_62 f_LP_64 hk1 hg2 <| j_getI d_LP_type_65 f_LP_140 hk2 <| j_ireturn d_LP_type_68 rfl k1
theorem s_LP_wipe_0 {G : j_G} {d B S N : Nat} {K : Nat → Option (Nat × Nat)} {M : Nat → Int → Int} {g : Nat → Int → Option Nat} {Q : j_O → j_S → Prop} {a0 y1 : Nat} {u1 : j_V} (hk1 : K a0 = some (0, 0)) (hg2 : g a0 10 = some y1) (hk2 : K y1 = some (0, 7)) (k1 : Q (.inl (some (ji_ (M y1 1)))) (N, K, (j_up M y1 1 0), g)) : j_J G jm_LP_wipe d B S 0 [jr_ a0, u1] [] (N, K, M, g) Q :=
  j_aload_n d_LP_wipe_0 rfl <| j_getR d_LP_wipe_1 f_LP_64 hk1 hg2 <| j_getI d_LP_wipe_4 f_LP_140 hk2 <| j_istore_n d_LP_wipe_7 rfl rfl <| j_aload_n d_LP_wipe_8 rfl <| j_getR d_LP_wipe_9 f_LP_64 hk1 hg2 <| j_iconst d_LP_wipe_12 <| j_putI d_LP_wipe_13 f_LP_140 (⟨_, rfl, Or.inl rfl⟩) rfl hk2 <| j_iload_n d_LP_wipe_16 rfl <| j_ireturn d_LP_wipe_17 rfl k1
theorem s_LP_character_0 {G : j_G} {d B S N : Nat} {K : Nat → Option (Nat × Nat)} {M : Nat → Int → Int} {g : Nat → Int → Option Nat} {Q : j_O → j_S → Prop} {a0 y1 : Nat} {x1 : Int} {q : Int → (Nat → Int → Int) → Prop} (hk1 : K a0 = some (0, 0)) (hg2 : g a0 10 = some y1) (hk2 : K y1 = some (0, 7)) (hC : j_Ct G jm_LP_within d 0 0 [ji_ x1, ji_ 0, ji_ ((M y1 1) - 1)] (N, K, M, g) (j_pI N K g q)) (k1 : ∀ z M', q z M' → j_J G jm_LP_character (d + 1) B S 14 [jr_ a0, ji_ x1] [ji_ z] (N, K, M', g) Q) : j_J G jm_LP_character (d + 1) B S 0 [jr_ a0, ji_ x1] [] (N, K, M, g) Q :=
  j_iload_n d_LP_character_0 rfl <| j_iconst d_LP_character_1 <| j_aload_n d_LP_character_2 rfl <| j_getR d_LP_character_3 f_LP_64 hk1 hg2 <| j_getI d_LP_character_6 f_LP_140 hk2 <| j_iconst d_LP_character_9 <| j_isub d_LP_character_10 <| j_aSI (as := [ji_ x1, ji_ 0, ji_ ((M y1 1) - 1)]) (rest := []) d_LP_character_11 c_LP_1 rfl (Nat.le_of_ble_eq_true rfl) hC k1
theorem s_LP_character_14 {G : j_G} {d B S N : Nat} {K : Nat → Option (Nat × Nat)} {M : Nat → Int → Int} {g : Nat → Int → Option Nat} {Q : j_O → j_S → Prop} {a0 : Nat} {x1 t0 : Int} (r1 : -2147483648 ≤ t0 ∧ t0 ≤ 2147483647 := by omega) (k1 : t0 = 0 → Q (.inl (some (ji_ (-3)))) (N, K, M, g)) (k2 : t0 ≠ 0 → j_J G jm_LP_character d B S 17 [jr_ a0, ji_ x1] [] (N, K, M, g) Q) : j_J G jm_LP_character d B S 14 [jr_ a0, ji_ x1] [ji_ t0] (N, K, M, g) Q :=
  j_if_eq d_LP_character_14 r1 (fun h => j_bipush d_LP_character_33 (by decide) <| j_ireturn d_LP_character_35 rfl <| k1 h) k2
theorem s_LP_character_17 {G : j_G} {d B S N : Nat} {K : Nat → Option (Nat × Nat)} {M : Nat → Int → Int} {g : Nat → Int → Option Nat} {Q : j_O → j_S → Prop} {a0 y1 y3 n3 : Nat} {x1 : Int} (hk1 : K a0 = some (0, 0)) (hg2 : g a0 10 = some y1) (hk2 : K y1 = some (0, 7)) (hg4 : g y1 0 = some y3) (hk3 : K y3 = some (2, n3)) (r5 : 0 ≤ x1 := by omega) (r5' : x1 < (n3 : Int) := by omega) (k1 : Q (.inl (some (ji_ ((M y3 x1) % 2 ^ 8)))) (N, K, M, g)) : j_J G jm_LP_character d B S 17 [jr_ a0, ji_ x1] [] (N, K, M, g) Q :=
  j_aload_n d_LP_character_17 rfl <| j_getR d_LP_character_18 f_LP_64 hk1 hg2 <| j_getR d_LP_character_21 f_LP_161 hk2 hg4 <| j_iload_n d_LP_character_24 rfl <| j_bald d_LP_character_25 hk3 r5 r5' <| j_sipush d_LP_character_26 (by decide) <| j_iandM 8 d_LP_character_29 (by decide) (by decide) <| j_goto d_LP_character_30 (j_ireturn d_LP_character_35 rfl <| k1)
theorem s_LP_character_33 {G : j_G} {d B S N : Nat} {K : Nat → Option (Nat × Nat)} {M : Nat → Int → Int} {g : Nat → Int → Option Nat} {Q : j_O → j_S → Prop} {a0 : Nat} {x1 : Int}  (k1 : Q (.inl (some (ji_ (-3)))) (N, K, M, g)) : j_J G jm_LP_character d B S 33 [jr_ a0, ji_ x1] [] (N, K, M, g) Q :=
  j_bipush d_LP_character_33 (by decide) <| (j_ireturn d_LP_character_35 rfl <| k1)
theorem s_LP_character_35 {G : j_G} {d B S N : Nat} {K : Nat → Option (Nat × Nat)} {M : Nat → Int → Int} {g : Nat → Int → Option Nat} {Q : j_O → j_S → Prop} {a0 : Nat} {x1 t0 : Int}  (k1 : Q (.inl (some (ji_ t0))) (N, K, M, g)) : j_J G jm_LP_character d B S 35 [jr_ a0, ji_ x1] [ji_ t0] (N, K, M, g) Q :=
  j_ireturn d_LP_character_35 rfl k1
