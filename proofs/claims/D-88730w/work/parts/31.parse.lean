set_option maxRecDepth 100000
theorem eX0_signs_0 : DC cX0_signs 0 (0) 1 := Or.inl ⟨0, ⟨by decide +kernel, rfl⟩, by decide⟩
theorem eX0_signs_1 : D1 cX0_signs 1 (.istore_n 2) 2 := ⟨by decide +kernel, rfl⟩
theorem eX0_signs_2 : D1 cX0_signs 2 (.iload_n 2) 3 := ⟨by decide +kernel, rfl⟩
theorem eX0_signs_3 : D1 cX0_signs 3 (.aload_n 1) 4 := ⟨by decide +kernel, rfl⟩
theorem eX0_signs_4 : D3 cX0_signs 4 (.invokevirtual 296) 7 := ⟨by decide +kernel, rfl⟩
theorem eX0_signs_7 : DJ cX0_signs 7 (.if_icmp .ge) 53 10 := ⟨46, by decide +kernel, by decide, rfl⟩
theorem eX0_signs_10 : D1 cX0_signs 10 (.aload_n 0) 11 := ⟨by decide +kernel, rfl⟩
theorem eX0_signs_11 : D3 cX0_signs 11 (.getfield 301) 14 := ⟨by decide +kernel, rfl⟩
theorem eX0_signs_14 : DJ cX0_signs 14 (.ifCond .ne) 53 17 := ⟨39, by decide +kernel, by decide, rfl⟩
theorem eX0_signs_17 : D1 cX0_signs 17 (.aload_n 0) 18 := ⟨by decide +kernel, rfl⟩
theorem eX0_signs_18 : D3 cX0_signs 18 (.invokevirtual 304) 21 := ⟨by decide +kernel, rfl⟩
theorem eX0_signs_21 : D1 cX0_signs 21 (.aload_n 1) 22 := ⟨by decide +kernel, rfl⟩
theorem eX0_signs_22 : D1 cX0_signs 22 (.iload_n 2) 23 := ⟨by decide +kernel, rfl⟩
theorem eX0_signs_23 : D3 cX0_signs 23 (.invokevirtual 307) 26 := ⟨by decide +kernel, rfl⟩
theorem eX0_signs_26 : DJ cX0_signs 26 (.if_icmp .ne) 42 29 := ⟨16, by decide +kernel, by decide, rfl⟩
theorem eX0_signs_29 : D1 cX0_signs 29 (.aload_n 0) 30 := ⟨by decide +kernel, rfl⟩
theorem eX0_signs_30 : D1 cX0_signs 30 (.dup) 31 := ⟨by decide +kernel, rfl⟩
theorem eX0_signs_31 : D3 cX0_signs 31 (.getfield 294) 34 := ⟨by decide +kernel, rfl⟩
theorem eX0_signs_34 : DC cX0_signs 34 (1) 35 := Or.inl ⟨1, ⟨by decide +kernel, rfl⟩, by decide⟩
theorem eX0_signs_35 : D1 cX0_signs 35 (.iadd) 36 := ⟨by decide +kernel, rfl⟩
theorem eX0_signs_36 : D3 cX0_signs 36 (.putfield 294) 39 := ⟨by decide +kernel, rfl⟩
theorem eX0_signs_39 : DJ cX0_signs 39 .goto 47 42 := ⟨8, by decide +kernel, by decide, rfl⟩
theorem eX0_signs_42 : D1 cX0_signs 42 (.aload_n 0) 43 := ⟨by decide +kernel, rfl⟩
theorem eX0_signs_43 : DC cX0_signs 43 (1) 44 := Or.inl ⟨1, ⟨by decide +kernel, rfl⟩, by decide⟩
theorem eX0_signs_44 : D3 cX0_signs 44 (.putfield 301) 47 := ⟨by decide +kernel, rfl⟩
theorem eX0_signs_47 : D3 cX0_signs 47 (.iinc 2 1) 50 := ⟨by decide +kernel, rfl⟩
theorem eX0_signs_50 : DJ cX0_signs 50 .goto 2 53 := ⟨-48, by decide +kernel, by decide, rfl⟩
theorem eX0_signs_53 : D1 cX0_signs 53 (.return_) 54 := ⟨by decide +kernel, rfl⟩
theorem eX0_word_0 : D1 cX0_word 0 (.aload_n 0) 1 := ⟨by decide +kernel, rfl⟩
theorem eX0_word_1 : D3 cX0_word 1 (.getfield 294) 4 := ⟨by decide +kernel, rfl⟩
theorem eX0_word_4 : D1 cX0_word 4 (.iload_n 2) 5 := ⟨by decide +kernel, rfl⟩
theorem eX0_word_5 : D1 cX0_word 5 (.iadd) 6 := ⟨by decide +kernel, rfl⟩
theorem eX0_word_6 : D1 cX0_word 6 (.aload_n 0) 7 := ⟨by decide +kernel, rfl⟩
theorem eX0_word_7 : D3 cX0_word 7 (.getfield 291) 10 := ⟨by decide +kernel, rfl⟩
theorem eX0_word_10 : DJ cX0_word 10 (.if_icmp .ge) 31 13 := ⟨21, by decide +kernel, by decide, rfl⟩
theorem eX0_word_13 : D1 cX0_word 13 (.aload_n 0) 14 := ⟨by decide +kernel, rfl⟩
theorem eX0_word_14 : D3 cX0_word 14 (.getfield 61) 17 := ⟨by decide +kernel, rfl⟩
theorem eX0_word_17 : D1 cX0_word 17 (.aload_n 0) 18 := ⟨by decide +kernel, rfl⟩
theorem eX0_word_18 : D3 cX0_word 18 (.getfield 294) 21 := ⟨by decide +kernel, rfl⟩
theorem eX0_word_21 : D1 cX0_word 21 (.iload_n 2) 22 := ⟨by decide +kernel, rfl⟩
theorem eX0_word_22 : D1 cX0_word 22 (.iadd) 23 := ⟨by decide +kernel, rfl⟩
theorem eX0_word_23 : D1 cX0_word 23 (.baload) 24 := ⟨by decide +kernel, rfl⟩
theorem eX0_word_24 : DC cX0_word 24 (255) 27 := Or.inr (Or.inr ⟨255, ⟨by decide +kernel, rfl⟩, by decide⟩)
theorem eX0_word_27 : D1 cX0_word 27 (.iand) 28 := ⟨by decide +kernel, rfl⟩
theorem eX0_word_28 : DJ cX0_word 28 .goto 32 31 := ⟨4, by decide +kernel, by decide, rfl⟩
theorem eX0_word_31 : DC cX0_word 31 (-1) 32 := Or.inl ⟨-1, ⟨by decide +kernel, rfl⟩, by decide⟩
theorem eX0_word_32 : D1 cX0_word 32 (.istore_n 3) 33 := ⟨by decide +kernel, rfl⟩
theorem eX0_word_33 : DC cX0_word 33 (-1) 34 := Or.inl ⟨-1, ⟨by decide +kernel, rfl⟩, by decide⟩
theorem eX0_word_34 : D2 cX0_word 34 (.istore 4) 36 := ⟨by decide +kernel, rfl⟩
theorem eX0_word_36 : DC cX0_word 36 (0) 37 := Or.inl ⟨0, ⟨by decide +kernel, rfl⟩, by decide⟩
theorem eX0_word_37 : D2 cX0_word 37 (.istore 5) 39 := ⟨by decide +kernel, rfl⟩
theorem eX0_word_39 : D2 cX0_word 39 (.iload 5) 41 := ⟨by decide +kernel, rfl⟩
theorem eX0_word_41 : D1 cX0_word 41 (.aload_n 1) 42 := ⟨by decide +kernel, rfl⟩
theorem eX0_word_42 : D1 cX0_word 42 (.arraylength) 43 := ⟨by decide +kernel, rfl⟩
theorem eX0_word_43 : DJ cX0_word 43 (.if_icmp .ge) 92 46 := ⟨49, by decide +kernel, by decide, rfl⟩
theorem eX0_word_46 : D1 cX0_word 46 (.aload_n 1) 47 := ⟨by decide +kernel, rfl⟩
theorem eX0_word_47 : D2 cX0_word 47 (.iload 5) 49 := ⟨by decide +kernel, rfl⟩
theorem eX0_word_49 : D1 cX0_word 49 (.aaload) 50 := ⟨by decide +kernel, rfl⟩
theorem eX0_word_50 : DC cX0_word 50 (0) 51 := Or.inl ⟨0, ⟨by decide +kernel, rfl⟩, by decide⟩
theorem eX0_word_51 : D3 cX0_word 51 (.invokevirtual 307) 54 := ⟨by decide +kernel, rfl⟩
theorem eX0_word_54 : D1 cX0_word 54 (.aload_n 0) 55 := ⟨by decide +kernel, rfl⟩
theorem eX0_word_55 : D3 cX0_word 55 (.invokevirtual 304) 58 := ⟨by decide +kernel, rfl⟩
theorem eX0_word_58 : DJ cX0_word 58 (.if_icmp .eq) 64 61 := ⟨6, by decide +kernel, by decide, rfl⟩
theorem eX0_word_61 : DJ cX0_word 61 .goto 86 64 := ⟨25, by decide +kernel, by decide, rfl⟩
theorem eX0_word_64 : D2 cX0_word 64 (.iload 4) 66 := ⟨by decide +kernel, rfl⟩
theorem eX0_word_66 : DC cX0_word 66 (-1) 67 := Or.inl ⟨-1, ⟨by decide +kernel, rfl⟩, by decide⟩
theorem eX0_word_67 : DJ cX0_word 67 (.if_icmp .eq) 82 70 := ⟨15, by decide +kernel, by decide, rfl⟩
theorem eX0_word_70 : D1 cX0_word 70 (.aload_n 1) 71 := ⟨by decide +kernel, rfl⟩
theorem eX0_word_71 : D2 cX0_word 71 (.iload 5) 73 := ⟨by decide +kernel, rfl⟩
theorem eX0_word_73 : D1 cX0_word 73 (.aaload) 74 := ⟨by decide +kernel, rfl⟩
theorem eX0_word_74 : D1 cX0_word 74 (.iload_n 2) 75 := ⟨by decide +kernel, rfl⟩
theorem eX0_word_75 : D3 cX0_word 75 (.invokevirtual 307) 78 := ⟨by decide +kernel, rfl⟩
theorem eX0_word_78 : D1 cX0_word 78 (.iload_n 3) 79 := ⟨by decide +kernel, rfl⟩
theorem eX0_word_79 : DJ cX0_word 79 (.if_icmp .ne) 86 82 := ⟨7, by decide +kernel, by decide, rfl⟩
theorem eX0_word_82 : D2 cX0_word 82 (.iload 5) 84 := ⟨by decide +kernel, rfl⟩
theorem eX0_word_84 : D2 cX0_word 84 (.istore 4) 86 := ⟨by decide +kernel, rfl⟩
theorem eX0_word_86 : D3 cX0_word 86 (.iinc 5 1) 89 := ⟨by decide +kernel, rfl⟩
theorem eX0_word_89 : DJ cX0_word 89 .goto 39 92 := ⟨-50, by decide +kernel, by decide, rfl⟩
theorem eX0_word_92 : D2 cX0_word 92 (.iload 4) 94 := ⟨by decide +kernel, rfl⟩
theorem eX0_word_94 : DC cX0_word 94 (-1) 95 := Or.inl ⟨-1, ⟨by decide +kernel, rfl⟩, by decide⟩
theorem eX0_word_95 : DJ cX0_word 95 (.if_icmp .ne) 106 98 := ⟨11, by decide +kernel, by decide, rfl⟩
theorem eX0_word_98 : D1 cX0_word 98 (.aload_n 0) 99 := ⟨by decide +kernel, rfl⟩
theorem eX0_word_99 : DC cX0_word 99 (1) 100 := Or.inl ⟨1, ⟨by decide +kernel, rfl⟩, by decide⟩
theorem eX0_word_100 : D3 cX0_word 100 (.putfield 301) 103 := ⟨by decide +kernel, rfl⟩
theorem eX0_word_103 : DJ cX0_word 103 .goto 114 106 := ⟨11, by decide +kernel, by decide, rfl⟩
theorem eX0_word_106 : D1 cX0_word 106 (.aload_n 0) 107 := ⟨by decide +kernel, rfl⟩
theorem eX0_word_107 : D1 cX0_word 107 (.aload_n 1) 108 := ⟨by decide +kernel, rfl⟩
theorem eX0_word_108 : D2 cX0_word 108 (.iload 4) 110 := ⟨by decide +kernel, rfl⟩
theorem eX0_word_110 : D1 cX0_word 110 (.aaload) 111 := ⟨by decide +kernel, rfl⟩
theorem eX0_word_111 : D3 cX0_word 111 (.invokevirtual 311) 114 := ⟨by decide +kernel, rfl⟩
theorem eX0_word_114 : D2 cX0_word 114 (.iload 4) 116 := ⟨by decide +kernel, rfl⟩
theorem eX0_word_116 : D1 cX0_word 116 (.ireturn) 117 := ⟨by decide +kernel, rfl⟩
theorem eX0_test_0 : D1 cX0_test 0 (.aload_n 0) 1 := ⟨by decide +kernel, rfl⟩
theorem eX0_test_1 : D3 cX0_test 1 (.invokevirtual 304) 4 := ⟨by decide +kernel, rfl⟩
theorem eX0_test_4 : DC cX0_test 4 (33) 6 := Or.inr (Or.inl ⟨33, ⟨by decide +kernel, rfl⟩, by decide⟩)
theorem eX0_test_6 : DJ cX0_test 6 (.if_icmp .ne) 29 9 := ⟨23, by decide +kernel, by decide, rfl⟩
theorem eX0_test_9 : D1 cX0_test 9 (.aload_n 0) 10 := ⟨by decide +kernel, rfl⟩
theorem eX0_test_10 : D1 cX0_test 10 (.dup) 11 := ⟨by decide +kernel, rfl⟩
theorem eX0_test_11 : D3 cX0_test 11 (.getfield 294) 14 := ⟨by decide +kernel, rfl⟩
theorem eX0_test_14 : DC cX0_test 14 (1) 15 := Or.inl ⟨1, ⟨by decide +kernel, rfl⟩, by decide⟩
theorem eX0_test_15 : D1 cX0_test 15 (.iadd) 16 := ⟨by decide +kernel, rfl⟩
theorem eX0_test_16 : D3 cX0_test 16 (.putfield 294) 19 := ⟨by decide +kernel, rfl⟩
theorem eX0_test_19 : D1 cX0_test 19 (.aload_n 1) 20 := ⟨by decide +kernel, rfl⟩
theorem eX0_test_20 : D3 cX0_test 20 (.getfield 315) 23 := ⟨by decide +kernel, rfl⟩
theorem eX0_test_23 : D1 cX0_test 23 (.aload_n 1) 24 := ⟨by decide +kernel, rfl⟩
theorem eX0_test_24 : D3 cX0_test 24 (.getfield 318) 27 := ⟨by decide +kernel, rfl⟩
theorem eX0_test_27 : DC cX0_test 27 (1) 28 := Or.inl ⟨1, ⟨by decide +kernel, rfl⟩, by decide⟩
theorem eX0_test_28 : D1 cX0_test 28 (.bastore) 29 := ⟨by decide +kernel, rfl⟩
theorem eX0_test_29 : D1 cX0_test 29 (.aload_n 1) 30 := ⟨by decide +kernel, rfl⟩
theorem eX0_test_30 : D3 cX0_test 30 (.getfield 321) 33 := ⟨by decide +kernel, rfl⟩
theorem eX0_test_33 : D1 cX0_test 33 (.aload_n 1) 34 := ⟨by decide +kernel, rfl⟩
theorem eX0_test_34 : D3 cX0_test 34 (.getfield 318) 37 := ⟨by decide +kernel, rfl⟩
theorem eX0_test_37 : D1 cX0_test 37 (.aload_n 0) 38 := ⟨by decide +kernel, rfl⟩
theorem eX0_test_38 : D3 cX0_test 38 (.getstatic 324) 41 := ⟨by decide +kernel, rfl⟩
theorem eX0_test_41 : DC cX0_test 41 (1) 42 := Or.inl ⟨1, ⟨by decide +kernel, rfl⟩, by decide⟩
theorem eX0_test_42 : D3 cX0_test 42 (.invokevirtual 328) 45 := ⟨by decide +kernel, rfl⟩
theorem eX0_test_45 : D1 cX0_test 45 (.iastore) 46 := ⟨by decide +kernel, rfl⟩
theorem eX0_test_46 : D1 cX0_test 46 (.aload_n 0) 47 := ⟨by decide +kernel, rfl⟩
theorem eX0_test_47 : D3 cX0_test 47 (.getfield 301) 50 := ⟨by decide +kernel, rfl⟩
theorem eX0_test_50 : DJ cX0_test 50 (.ifCond .eq) 54 53 := ⟨4, by decide +kernel, by decide, rfl⟩
theorem eX0_test_53 : D1 cX0_test 53 (.return_) 54 := ⟨by decide +kernel, rfl⟩
theorem eX0_test_54 : D1 cX0_test 54 (.aload_n 1) 55 := ⟨by decide +kernel, rfl⟩
theorem eX0_test_55 : D3 cX0_test 55 (.getfield 332) 58 := ⟨by decide +kernel, rfl⟩
theorem eX0_test_58 : D1 cX0_test 58 (.aload_n 1) 59 := ⟨by decide +kernel, rfl⟩
theorem eX0_test_59 : D3 cX0_test 59 (.getfield 318) 62 := ⟨by decide +kernel, rfl⟩
theorem eX0_test_62 : D1 cX0_test 62 (.aload_n 0) 63 := ⟨by decide +kernel, rfl⟩
theorem eX0_test_63 : D3 cX0_test 63 (.invokevirtual 304) 66 := ⟨by decide +kernel, rfl⟩
theorem eX0_test_66 : D1 cX0_test 66 (.iastore) 67 := ⟨by decide +kernel, rfl⟩
theorem eX0_test_67 : D1 cX0_test 67 (.aload_n 0) 68 := ⟨by decide +kernel, rfl⟩
theorem eX0_test_68 : D3 cX0_test 68 (.invokevirtual 304) 71 := ⟨by decide +kernel, rfl⟩
theorem eX0_test_71 : DC cX0_test 71 (60) 73 := Or.inr (Or.inl ⟨60, ⟨by decide +kernel, rfl⟩, by decide⟩)
theorem eX0_test_73 : DJ cX0_test 73 (.if_icmp .eq) 85 76 := ⟨12, by decide +kernel, by decide, rfl⟩
theorem eX0_test_76 : D1 cX0_test 76 (.aload_n 0) 77 := ⟨by decide +kernel, rfl⟩
theorem eX0_test_77 : D3 cX0_test 77 (.invokevirtual 304) 80 := ⟨by decide +kernel, rfl⟩
theorem eX0_test_80 : DC cX0_test 80 (62) 82 := Or.inr (Or.inl ⟨62, ⟨by decide +kernel, rfl⟩, by decide⟩)
theorem eX0_test_82 : DJ cX0_test 82 (.if_icmp .ne) 98 85 := ⟨16, by decide +kernel, by decide, rfl⟩
theorem eX0_test_85 : D1 cX0_test 85 (.aload_n 0) 86 := ⟨by decide +kernel, rfl⟩
theorem eX0_test_86 : D1 cX0_test 86 (.dup) 87 := ⟨by decide +kernel, rfl⟩
theorem eX0_test_87 : D3 cX0_test 87 (.getfield 294) 90 := ⟨by decide +kernel, rfl⟩
theorem eX0_test_90 : DC cX0_test 90 (1) 91 := Or.inl ⟨1, ⟨by decide +kernel, rfl⟩, by decide⟩
theorem eX0_test_91 : D1 cX0_test 91 (.iadd) 92 := ⟨by decide +kernel, rfl⟩
theorem eX0_test_92 : D3 cX0_test 92 (.putfield 294) 95 := ⟨by decide +kernel, rfl⟩
theorem eX0_test_95 : DJ cX0_test 95 .goto 105 98 := ⟨10, by decide +kernel, by decide, rfl⟩
theorem eX0_test_98 : D1 cX0_test 98 (.aload_n 0) 99 := ⟨by decide +kernel, rfl⟩
theorem eX0_test_99 : D3 cX0_test 99 (.ldc_w 334) 102 := ⟨by decide +kernel, rfl⟩
theorem eX0_test_102 : D3 cX0_test 102 (.invokevirtual 311) 105 := ⟨by decide +kernel, rfl⟩
theorem eX0_test_105 : DC cX0_test 105 (0) 106 := Or.inl ⟨0, ⟨by decide +kernel, rfl⟩, by decide⟩
theorem eX0_test_106 : D1 cX0_test 106 (.istore_n 2) 107 := ⟨by decide +kernel, rfl⟩
theorem eX0_test_107 : DC cX0_test 107 (0) 108 := Or.inl ⟨0, ⟨by decide +kernel, rfl⟩, by decide⟩
theorem eX0_test_108 : D1 cX0_test 108 (.istore_n 3) 109 := ⟨by decide +kernel, rfl⟩
theorem eX0_test_109 : D1 cX0_test 109 (.aload_n 0) 110 := ⟨by decide +kernel, rfl⟩
theorem eX0_test_110 : D3 cX0_test 110 (.getfield 301) 113 := ⟨by decide +kernel, rfl⟩
theorem eX0_test_113 : DJ cX0_test 113 (.ifCond .ne) 167 116 := ⟨54, by decide +kernel, by decide, rfl⟩
theorem eX0_test_116 : D1 cX0_test 116 (.iload_n 3) 117 := ⟨by decide +kernel, rfl⟩
theorem eX0_test_117 : DC cX0_test 117 (3) 118 := Or.inl ⟨3, ⟨by decide +kernel, rfl⟩, by decide⟩
theorem eX0_test_118 : DJ cX0_test 118 (.if_icmp .ge) 167 121 := ⟨49, by decide +kernel, by decide, rfl⟩
theorem eX0_test_121 : D1 cX0_test 121 (.aload_n 0) 122 := ⟨by decide +kernel, rfl⟩
theorem eX0_test_122 : D3 cX0_test 122 (.invokevirtual 304) 125 := ⟨by decide +kernel, rfl⟩
theorem eX0_test_125 : D1 cX0_test 125 (.i2l) 126 := ⟨by decide +kernel, rfl⟩
theorem eX0_test_126 : D3 cX0_test 126 (.ldc2_w 336) 129 := ⟨by decide +kernel, rfl⟩
theorem eX0_test_129 : D3 cX0_test 129 (.ldc2_w 338) 132 := ⟨by decide +kernel, rfl⟩
theorem eX0_test_132 : D3 cX0_test 132 (.invokestatic 103) 135 := ⟨by decide +kernel, rfl⟩
theorem eX0_test_135 : DJ cX0_test 135 (.ifCond .eq) 167 138 := ⟨32, by decide +kernel, by decide, rfl⟩
theorem eX0_test_138 : DC cX0_test 138 (10) 140 := Or.inr (Or.inl ⟨10, ⟨by decide +kernel, rfl⟩, by decide⟩)
theorem eX0_test_140 : D1 cX0_test 140 (.iload_n 2) 141 := ⟨by decide +kernel, rfl⟩
theorem eX0_test_141 : D1 cX0_test 141 (.imul) 142 := ⟨by decide +kernel, rfl⟩
theorem eX0_test_142 : D1 cX0_test 142 (.aload_n 0) 143 := ⟨by decide +kernel, rfl⟩
theorem eX0_test_143 : D3 cX0_test 143 (.invokevirtual 304) 146 := ⟨by decide +kernel, rfl⟩
theorem eX0_test_146 : D1 cX0_test 146 (.iadd) 147 := ⟨by decide +kernel, rfl⟩
theorem eX0_test_147 : DC cX0_test 147 (48) 149 := Or.inr (Or.inl ⟨48, ⟨by decide +kernel, rfl⟩, by decide⟩)
theorem eX0_test_149 : D1 cX0_test 149 (.isub) 150 := ⟨by decide +kernel, rfl⟩
theorem eX0_test_150 : D1 cX0_test 150 (.istore_n 2) 151 := ⟨by decide +kernel, rfl⟩
theorem eX0_test_151 : D1 cX0_test 151 (.aload_n 0) 152 := ⟨by decide +kernel, rfl⟩
theorem eX0_test_152 : D1 cX0_test 152 (.dup) 153 := ⟨by decide +kernel, rfl⟩
theorem eX0_test_153 : D3 cX0_test 153 (.getfield 294) 156 := ⟨by decide +kernel, rfl⟩
theorem eX0_test_156 : DC cX0_test 156 (1) 157 := Or.inl ⟨1, ⟨by decide +kernel, rfl⟩, by decide⟩
theorem eX0_test_157 : D1 cX0_test 157 (.iadd) 158 := ⟨by decide +kernel, rfl⟩
theorem eX0_test_158 : D3 cX0_test 158 (.putfield 294) 161 := ⟨by decide +kernel, rfl⟩
theorem eX0_test_161 : D3 cX0_test 161 (.iinc 3 1) 164 := ⟨by decide +kernel, rfl⟩
theorem eX0_test_164 : DJ cX0_test 164 .goto 109 167 := ⟨-55, by decide +kernel, by decide, rfl⟩
theorem eX0_test_167 : D1 cX0_test 167 (.iload_n 3) 168 := ⟨by decide +kernel, rfl⟩
theorem eX0_test_168 : DJ cX0_test 168 (.ifCond .ne) 176 171 := ⟨8, by decide +kernel, by decide, rfl⟩
theorem eX0_test_171 : D1 cX0_test 171 (.aload_n 0) 172 := ⟨by decide +kernel, rfl⟩
theorem eX0_test_172 : DC cX0_test 172 (1) 173 := Or.inl ⟨1, ⟨by decide +kernel, rfl⟩, by decide⟩
theorem eX0_test_173 : D3 cX0_test 173 (.putfield 301) 176 := ⟨by decide +kernel, rfl⟩
theorem eX0_test_176 : D1 cX0_test 176 (.aload_n 1) 177 := ⟨by decide +kernel, rfl⟩
theorem eX0_test_177 : D3 cX0_test 177 (.getfield 340) 180 := ⟨by decide +kernel, rfl⟩
theorem eX0_test_180 : D1 cX0_test 180 (.aload_n 1) 181 := ⟨by decide +kernel, rfl⟩
theorem eX0_test_181 : D3 cX0_test 181 (.getfield 318) 184 := ⟨by decide +kernel, rfl⟩
theorem eX0_test_184 : D1 cX0_test 184 (.iload_n 2) 185 := ⟨by decide +kernel, rfl⟩
theorem eX0_test_185 : D1 cX0_test 185 (.iastore) 186 := ⟨by decide +kernel, rfl⟩
theorem eX0_test_186 : D1 cX0_test 186 (.aload_n 1) 187 := ⟨by decide +kernel, rfl⟩
theorem eX0_test_187 : D1 cX0_test 187 (.dup) 188 := ⟨by decide +kernel, rfl⟩
theorem eX0_test_188 : D3 cX0_test 188 (.getfield 318) 191 := ⟨by decide +kernel, rfl⟩
theorem eX0_test_191 : DC cX0_test 191 (1) 192 := Or.inl ⟨1, ⟨by decide +kernel, rfl⟩, by decide⟩
theorem eX0_test_192 : D1 cX0_test 192 (.iadd) 193 := ⟨by decide +kernel, rfl⟩
theorem eX0_test_193 : D3 cX0_test 193 (.putfield 318) 196 := ⟨by decide +kernel, rfl⟩
theorem eX0_test_196 : D1 cX0_test 196 (.return_) 197 := ⟨by decide +kernel, rfl⟩
theorem eX0_read_0 : D1 cX0_read 0 (.aload_n 0) 1 := ⟨by decide +kernel, rfl⟩
theorem eX0_read_1 : DC cX0_read 1 (0) 2 := Or.inl ⟨0, ⟨by decide +kernel, rfl⟩, by decide⟩
theorem eX0_read_2 : D3 cX0_read 2 (.putfield 294) 5 := ⟨by decide +kernel, rfl⟩
theorem eX0_read_5 : D1 cX0_read 5 (.aload_n 0) 6 := ⟨by decide +kernel, rfl⟩
theorem eX0_read_6 : DC cX0_read 6 (0) 7 := Or.inl ⟨0, ⟨by decide +kernel, rfl⟩, by decide⟩
theorem eX0_read_7 : D3 cX0_read 7 (.putfield 301) 10 := ⟨by decide +kernel, rfl⟩
theorem eX0_read_10 : D1 cX0_read 10 (.aload_n 1) 11 := ⟨by decide +kernel, rfl⟩
theorem eX0_read_11 : D1 cX0_read 11 (.aload_n 0) 12 := ⟨by decide +kernel, rfl⟩
theorem eX0_read_12 : D3 cX0_read 12 (.invokevirtual 304) 15 := ⟨by decide +kernel, rfl⟩
theorem eX0_read_15 : DC cX0_read 15 (98) 17 := Or.inr (Or.inl ⟨98, ⟨by decide +kernel, rfl⟩, by decide⟩)
theorem eX0_read_17 : DJ cX0_read 17 (.if_icmp .ne) 24 20 := ⟨7, by decide +kernel, by decide, rfl⟩
theorem eX0_read_20 : DC cX0_read 20 (1) 21 := Or.inl ⟨1, ⟨by decide +kernel, rfl⟩, by decide⟩
theorem eX0_read_21 : DJ cX0_read 21 .goto 25 24 := ⟨4, by decide +kernel, by decide, rfl⟩
theorem eX0_read_24 : DC cX0_read 24 (0) 25 := Or.inl ⟨0, ⟨by decide +kernel, rfl⟩, by decide⟩
theorem eX0_read_25 : D3 cX0_read 25 (.putfield 343) 28 := ⟨by decide +kernel, rfl⟩
theorem eX0_read_28 : D1 cX0_read 28 (.aload_n 0) 29 := ⟨by decide +kernel, rfl⟩
theorem eX0_read_29 : D1 cX0_read 29 (.aload_n 1) 30 := ⟨by decide +kernel, rfl⟩
theorem eX0_read_30 : D3 cX0_read 30 (.getfield 343) 33 := ⟨by decide +kernel, rfl⟩
theorem eX0_read_33 : DJ cX0_read 33 (.ifCond .eq) 42 36 := ⟨9, by decide +kernel, by decide, rfl⟩
theorem eX0_read_36 : D3 cX0_read 36 (.ldc_w 346) 39 := ⟨by decide +kernel, rfl⟩
theorem eX0_read_39 : DJ cX0_read 39 .goto 45 42 := ⟨6, by decide +kernel, by decide, rfl⟩
theorem eX0_read_42 : D3 cX0_read 42 (.ldc_w 348) 45 := ⟨by decide +kernel, rfl⟩
theorem eX0_read_45 : D3 cX0_read 45 (.invokevirtual 311) 48 := ⟨by decide +kernel, rfl⟩
theorem eX0_read_48 : D1 cX0_read 48 (.aload_n 0) 49 := ⟨by decide +kernel, rfl⟩
theorem eX0_read_49 : D3 cX0_read 49 (.getfield 301) 52 := ⟨by decide +kernel, rfl⟩
theorem eX0_read_52 : DJ cX0_read 52 (.ifCond .eq) 56 55 := ⟨4, by decide +kernel, by decide, rfl⟩
theorem eX0_read_55 : D1 cX0_read 55 (.return_) 56 := ⟨by decide +kernel, rfl⟩
theorem eX0_read_56 : D1 cX0_read 56 (.aload_n 0) 57 := ⟨by decide +kernel, rfl⟩
theorem eX0_read_57 : D3 cX0_read 57 (.invokevirtual 304) 60 := ⟨by decide +kernel, rfl⟩
theorem eX0_read_60 : DC cX0_read 60 (42) 62 := Or.inr (Or.inl ⟨42, ⟨by decide +kernel, rfl⟩, by decide⟩)
theorem eX0_read_62 : DJ cX0_read 62 (.if_icmp .ne) 83 65 := ⟨21, by decide +kernel, by decide, rfl⟩
theorem eX0_read_65 : D1 cX0_read 65 (.aload_n 0) 66 := ⟨by decide +kernel, rfl⟩
theorem eX0_read_66 : D1 cX0_read 66 (.dup) 67 := ⟨by decide +kernel, rfl⟩
theorem eX0_read_67 : D3 cX0_read 67 (.getfield 294) 70 := ⟨by decide +kernel, rfl⟩
theorem eX0_read_70 : DC cX0_read 70 (1) 71 := Or.inl ⟨1, ⟨by decide +kernel, rfl⟩, by decide⟩
theorem eX0_read_71 : D1 cX0_read 71 (.iadd) 72 := ⟨by decide +kernel, rfl⟩
theorem eX0_read_72 : D3 cX0_read 72 (.putfield 294) 75 := ⟨by decide +kernel, rfl⟩
theorem eX0_read_75 : D1 cX0_read 75 (.aload_n 1) 76 := ⟨by decide +kernel, rfl⟩
theorem eX0_read_76 : DC cX0_read 76 (-1) 77 := Or.inl ⟨-1, ⟨by decide +kernel, rfl⟩, by decide⟩
theorem eX0_read_77 : D3 cX0_read 77 (.putfield 350) 80 := ⟨by decide +kernel, rfl⟩
theorem eX0_read_80 : DJ cX0_read 80 .goto 95 83 := ⟨15, by decide +kernel, by decide, rfl⟩
theorem eX0_read_83 : D1 cX0_read 83 (.aload_n 1) 84 := ⟨by decide +kernel, rfl⟩
theorem eX0_read_84 : D1 cX0_read 84 (.aload_n 0) 85 := ⟨by decide +kernel, rfl⟩
theorem eX0_read_85 : D3 cX0_read 85 (.getstatic 352) 88 := ⟨by decide +kernel, rfl⟩
theorem eX0_read_88 : DC cX0_read 88 (1) 89 := Or.inl ⟨1, ⟨by decide +kernel, rfl⟩, by decide⟩
theorem eX0_read_89 : D3 cX0_read 89 (.invokevirtual 328) 92 := ⟨by decide +kernel, rfl⟩
theorem eX0_read_92 : D3 cX0_read 92 (.putfield 350) 95 := ⟨by decide +kernel, rfl⟩
theorem eX0_read_95 : D1 cX0_read 95 (.aload_n 0) 96 := ⟨by decide +kernel, rfl⟩
theorem eX0_read_96 : D3 cX0_read 96 (.getfield 301) 99 := ⟨by decide +kernel, rfl⟩
theorem eX0_read_99 : DJ cX0_read 99 (.ifCond .ne) 113 102 := ⟨14, by decide +kernel, by decide, rfl⟩
theorem eX0_read_102 : D1 cX0_read 102 (.aload_n 0) 103 := ⟨by decide +kernel, rfl⟩
theorem eX0_read_103 : D3 cX0_read 103 (.getfield 294) 106 := ⟨by decide +kernel, rfl⟩
theorem eX0_read_106 : D1 cX0_read 106 (.aload_n 0) 107 := ⟨by decide +kernel, rfl⟩
theorem eX0_read_107 : D3 cX0_read 107 (.getfield 291) 110 := ⟨by decide +kernel, rfl⟩
theorem eX0_read_110 : DJ cX0_read 110 (.if_icmp .ne) 114 113 := ⟨4, by decide +kernel, by decide, rfl⟩
theorem eX0_read_113 : D1 cX0_read 113 (.return_) 114 := ⟨by decide +kernel, rfl⟩
theorem eX0_read_114 : D1 cX0_read 114 (.aload_n 0) 115 := ⟨by decide +kernel, rfl⟩
theorem eX0_read_115 : D3 cX0_read 115 (.ldc_w 355) 118 := ⟨by decide +kernel, rfl⟩
theorem eX0_read_118 : D3 cX0_read 118 (.invokevirtual 311) 121 := ⟨by decide +kernel, rfl⟩
theorem eX0_read_121 : D1 cX0_read 121 (.aload_n 0) 122 := ⟨by decide +kernel, rfl⟩
theorem eX0_read_122 : D3 cX0_read 122 (.getfield 301) 125 := ⟨by decide +kernel, rfl⟩
theorem eX0_read_125 : DJ cX0_read 125 (.ifCond .ne) 132 128 := ⟨7, by decide +kernel, by decide, rfl⟩
theorem eX0_read_128 : DC cX0_read 128 (1) 129 := Or.inl ⟨1, ⟨by decide +kernel, rfl⟩, by decide⟩
theorem eX0_read_129 : DJ cX0_read 129 .goto 133 132 := ⟨4, by decide +kernel, by decide, rfl⟩
theorem eX0_read_132 : DC cX0_read 132 (0) 133 := Or.inl ⟨0, ⟨by decide +kernel, rfl⟩, by decide⟩
theorem eX0_read_133 : D1 cX0_read 133 (.istore_n 2) 134 := ⟨by decide +kernel, rfl⟩
theorem eX0_read_134 : D1 cX0_read 134 (.iload_n 2) 135 := ⟨by decide +kernel, rfl⟩
theorem eX0_read_135 : DJ cX0_read 135 (.ifCond .eq) 215 138 := ⟨80, by decide +kernel, by decide, rfl⟩
theorem eX0_read_138 : D1 cX0_read 138 (.aload_n 0) 139 := ⟨by decide +kernel, rfl⟩
theorem eX0_read_139 : D1 cX0_read 139 (.aload_n 1) 140 := ⟨by decide +kernel, rfl⟩
theorem eX0_read_140 : D3 cX0_read 140 (.invokevirtual 357) 143 := ⟨by decide +kernel, rfl⟩
theorem eX0_read_143 : D1 cX0_read 143 (.aload_n 0) 144 := ⟨by decide +kernel, rfl⟩
theorem eX0_read_144 : D3 cX0_read 144 (.getfield 301) 147 := ⟨by decide +kernel, rfl⟩
theorem eX0_read_147 : DJ cX0_read 147 (.ifCond .ne) 165 150 := ⟨18, by decide +kernel, by decide, rfl⟩
theorem eX0_read_150 : D1 cX0_read 150 (.aload_n 0) 151 := ⟨by decide +kernel, rfl⟩
theorem eX0_read_151 : D3 cX0_read 151 (.getfield 294) 154 := ⟨by decide +kernel, rfl⟩
theorem eX0_read_154 : D1 cX0_read 154 (.aload_n 0) 155 := ⟨by decide +kernel, rfl⟩
theorem eX0_read_155 : D3 cX0_read 155 (.getfield 291) 158 := ⟨by decide +kernel, rfl⟩
theorem eX0_read_158 : DJ cX0_read 158 (.if_icmp .ge) 165 161 := ⟨7, by decide +kernel, by decide, rfl⟩
theorem eX0_read_161 : DC cX0_read 161 (1) 162 := Or.inl ⟨1, ⟨by decide +kernel, rfl⟩, by decide⟩
theorem eX0_read_162 : DJ cX0_read 162 .goto 166 165 := ⟨4, by decide +kernel, by decide, rfl⟩
theorem eX0_read_165 : DC cX0_read 165 (0) 166 := Or.inl ⟨0, ⟨by decide +kernel, rfl⟩, by decide⟩
theorem eX0_read_166 : D1 cX0_read 166 (.istore_n 2) 167 := ⟨by decide +kernel, rfl⟩
theorem eX0_read_167 : D1 cX0_read 167 (.iload_n 2) 168 := ⟨by decide +kernel, rfl⟩
theorem eX0_read_168 : DJ cX0_read 168 (.ifCond .eq) 184 171 := ⟨16, by decide +kernel, by decide, rfl⟩
theorem eX0_read_171 : D1 cX0_read 171 (.aload_n 1) 172 := ⟨by decide +kernel, rfl⟩
theorem eX0_read_172 : D3 cX0_read 172 (.getfield 318) 175 := ⟨by decide +kernel, rfl⟩
theorem eX0_read_175 : DC cX0_read 175 (3) 176 := Or.inl ⟨3, ⟨by decide +kernel, rfl⟩, by decide⟩
theorem eX0_read_176 : DJ cX0_read 176 (.if_icmp .ne) 184 179 := ⟨8, by decide +kernel, by decide, rfl⟩
theorem eX0_read_179 : D1 cX0_read 179 (.aload_n 0) 180 := ⟨by decide +kernel, rfl⟩
theorem eX0_read_180 : DC cX0_read 180 (1) 181 := Or.inl ⟨1, ⟨by decide +kernel, rfl⟩, by decide⟩
theorem eX0_read_181 : D3 cX0_read 181 (.putfield 301) 184 := ⟨by decide +kernel, rfl⟩
theorem eX0_read_184 : D1 cX0_read 184 (.iload_n 2) 185 := ⟨by decide +kernel, rfl⟩
theorem eX0_read_185 : DJ cX0_read 185 (.ifCond .eq) 195 188 := ⟨10, by decide +kernel, by decide, rfl⟩
theorem eX0_read_188 : D1 cX0_read 188 (.aload_n 0) 189 := ⟨by decide +kernel, rfl⟩
theorem eX0_read_189 : D3 cX0_read 189 (.ldc_w 361) 192 := ⟨by decide +kernel, rfl⟩
theorem eX0_read_192 : D3 cX0_read 192 (.invokevirtual 311) 195 := ⟨by decide +kernel, rfl⟩
theorem eX0_read_195 : D1 cX0_read 195 (.iload_n 2) 196 := ⟨by decide +kernel, rfl⟩
theorem eX0_read_196 : DJ cX0_read 196 (.ifCond .eq) 210 199 := ⟨14, by decide +kernel, by decide, rfl⟩
theorem eX0_read_199 : D1 cX0_read 199 (.aload_n 0) 200 := ⟨by decide +kernel, rfl⟩
theorem eX0_read_200 : D3 cX0_read 200 (.getfield 301) 203 := ⟨by decide +kernel, rfl⟩
theorem eX0_read_203 : DJ cX0_read 203 (.ifCond .ne) 210 206 := ⟨7, by decide +kernel, by decide, rfl⟩
theorem eX0_read_206 : DC cX0_read 206 (1) 207 := Or.inl ⟨1, ⟨by decide +kernel, rfl⟩, by decide⟩
theorem eX0_read_207 : DJ cX0_read 207 .goto 211 210 := ⟨4, by decide +kernel, by decide, rfl⟩
theorem eX0_read_210 : DC cX0_read 210 (0) 211 := Or.inl ⟨0, ⟨by decide +kernel, rfl⟩, by decide⟩
theorem eX0_read_211 : D1 cX0_read 211 (.istore_n 2) 212 := ⟨by decide +kernel, rfl⟩
theorem eX0_read_212 : DJ cX0_read 212 .goto 134 215 := ⟨-78, by decide +kernel, by decide, rfl⟩
theorem eX0_read_215 : D1 cX0_read 215 (.return_) 216 := ⟨by decide +kernel, rfl⟩
def sX_signs_L2 (a1 : Nat) : Int32 → Wd → Option (Wd) :=
  fx (fun _ _ => none) (fun self4 x2 w3 =>
    bd (sS_length a1) fun v5 => if v5 ≤ x2 then (some w3) else (if (w3.2.1 90 24) = 0 then (bd (sX_now w3) fun v6 => bd (sS_charAt a1 x2) fun v7 => if v6 = v7 then (nm (stG w3 90 23 ((w3.2.1 90 23) + (1 : Int32))) fun w10 => nm (x2 + (1 : Int32)) fun x11 => self4 x11 w10) else (nm (stG w3 90 24 (1 : Int32)) fun w8 => nm (x2 + (1 : Int32)) fun x9 => self4 x9 w8)) else (some w3))) FU
def sX_signs (w : Wd) (a1 : Nat) : Option (Wd) :=
  nm (0 : Int32) fun x1 => sX_signs_L2 a1 x1 w
abbrev rmX0_signs : Room := { frames := 4, cells := 0, slots := 0, locals := 85 }
theorem pkX0_signs : PkV yX0_signs RX0 cX0_signs 3 (none) 1 := ⟨q572, qs16, q57, q573, by decide +kernel⟩
set_option maxHeartbeats 4000000 in
theorem met_X0_signs (l : Launch) (D : va_G) (g : Nat → ClassId) (ad sd : Nat → Nat) (w : Wd) (a1 : Nat) (sz : Nat) (w' : Wd) (ho : sX_signs w a1 = some w') : Met l yX0_signs (ws_ yX0_signs cX0_signs 3 (none)) rmX0_signs (va_Pc [.ref (ad 99), .ref (sd a1)] (MPre D vwCl (tysG g) (cellsX g ad w) (NXX sd (cellsX g ad w)) sz)) (QcV D vwCl (tysG g) (cellsX g ad w') (va_A (cellsX g ad w) sz)) 0 0 (va_A (cellsX g ad w) sz) := by
  refine met_XJ (cw := cellsX g ad) (w := w) (cc := cX0_signs) (lv := [(0, .ref (ad 99)), (1, .ref (sd a1))]) pnX0 _ (Nat.le_of_ble_eq_true rfl) rfl ?_
  intro p e s m args below meth c R Q A B hN hr hsz hA hmm hRm hQ hAe
  have hX : NXA sd A s := by rw [hAe, ← hsz]; exact hN
  unfold sX_signs at ho
  refine j_const B eX0_signs_0 ?_
  refine j_istore_n (lv' := fun x1 => [(0, .ref (ad 99)), (1, .ref (sd a1)), (2, .int x1)]) B eX0_signs_1 [1, 2, 0] (by decide) (fun _ => rfl) ho (fun x1 ho => ?_)
  unfold sX_signs_L2 at ho
  refine fx2 (C := fun x2 w3 => XJ p l e R s m args below meth c 0 0 Q A D vwCl (cellsX g ad) 3 w3 2 [(0, .ref (ad 99)), (1, .ref (sd a1)), (2, .int x2)] []) (fun self4 hself4 x2 w3 ho => ?_) FU _ _ ho
  refine j_iload_n B eX0_signs_2 2 rfl ?_
  refine j_aload_n B eX0_signs_3 1 rfl ?_
  refine cS_length B hA hX hRm ⟨Nat.le_of_ble_eq_true rfl, Nat.le_of_ble_eq_true rfl⟩ (Nat.le_of_ble_eq_true rfl) ⟨Nat.zero_le _, Nat.zero_le _⟩ eX0_signs_4 ho (fun v5 ho => ?_)
  refine j_icmp_ge B eX0_signs_7 ho (fun _ ho => ?_) (fun _ ho => ?_)
  · exact j_vretw B hr hQ eX0_signs_53 ho
  · refine j_aload_n B eX0_signs_10 0 rfl ?_
    refine gfX_24 B eX0_signs_11 ?_
    refine j_if_ne B eX0_signs_14 ho (fun _ ho => ?_) (fun _ ho => ?_)
    · exact j_vretw B hr hQ eX0_signs_53 ho
    · refine j_aload_n B eX0_signs_17 0 rfl ?_
      refine j_callVi (As := []) B hA (met_X0_now l D g ad sd w3) (NXX_ok hX) pkX0_now q564 0 rfl rfl rfl rfl hRm ⟨Nat.le_of_ble_eq_true rfl, Nat.le_of_ble_eq_true rfl⟩ rfl rfl (Nat.le_of_ble_eq_true rfl) ⟨Nat.zero_le _, Nat.zero_le _⟩ eX0_signs_18 ho (fun v6 ho => ?_)
      refine j_aload_n B eX0_signs_21 1 rfl ?_
      refine j_iload_n B eX0_signs_22 2 rfl ?_
      refine cS_charAt B hA hX hRm ⟨Nat.le_of_ble_eq_true rfl, Nat.le_of_ble_eq_true rfl⟩ (Nat.le_of_ble_eq_true rfl) ⟨Nat.zero_le _, Nat.zero_le _⟩ eX0_signs_23 ho (fun v7 ho => ?_)
      refine j_icmp_ne B eX0_signs_26 ho (fun _ ho => ?_) (fun _ ho => ?_)
      · refine j_aload_n B eX0_signs_42 0 rfl ?_
        refine j_const B eX0_signs_43 ?_
        refine pfX_24 B rfl eX0_signs_44 ho (fun w8 ho => ?_)
        refine j_iinc (d := 1) (lv' := fun x9 => [(0, .ref (ad 99)), (1, .ref (sd a1)), (2, .int x9)]) B eX0_signs_47 2 rfl (by decide) [1, 2, 0] (by decide) (fun _ => rfl) ho (fun x9 ho => ?_)
        refine j_goto B eX0_signs_50 ?_
        exact hself4 _ _ ho
      · refine j_aload_n B eX0_signs_29 0 rfl ?_
        refine j_dup B eX0_signs_30 rfl ?_
        refine gfX_23 B eX0_signs_31 ?_
        refine j_const B eX0_signs_34 ?_
        refine j_iadd B eX0_signs_35 ?_
        refine pfX_23 B eX0_signs_36 ho (fun w10 ho => ?_)
        refine j_goto B eX0_signs_39 ?_
        refine j_iinc (d := 1) (lv' := fun x11 => [(0, .ref (ad 99)), (1, .ref (sd a1)), (2, .int x11)]) B eX0_signs_47 2 rfl (by decide) [1, 2, 0] (by decide) (fun _ => rfl) ho (fun x11 ho => ?_)
        refine j_goto B eX0_signs_50 ?_
        exact hself4 _ _ ho
def sX_word_L39 (w : Wd) (a1 : Nat) (a2 : Int32) (x3 : Int32) (J7 : Int32 → Option (Int32 × Wd)) : Int32 → Int32 → Option (Int32 × Wd) :=
  fx (fun _ _ => none) (fun self13 x11 x12 =>
    gd (decide (a1 = 100 ∨ a1 = 101)) (nm (Int32.ofNat (tLen a1)) fun v14 => if v14 ≤ x12 then (J7 x11) else (rd (decide (a1 = 100 ∨ a1 = 101) && inb x12 (tLen a1)) (tOff a1 + Int32.toNatClampNeg x12) fun k15 => bd (sS_charAt k15 (0 : Int32)) fun v16 => bd (sX_now w) fun v17 => if v16 = v17 then (jn (nm x12 fun x19 => nm (x12 + (1 : Int32)) fun x20 => self13 x19 x20) fun J18 => if x11 = (-1 : Int32) then (J18) else (rd (decide (a1 = 100 ∨ a1 = 101) && inb x12 (tLen a1)) (tOff a1 + Int32.toNatClampNeg x12) fun k21 => bd (sS_charAt k21 a2) fun v22 => if v22 = x3 then (J18) else (nm (x12 + (1 : Int32)) fun x23 => self13 x11 x23))) else (nm (x12 + (1 : Int32)) fun x24 => self13 x11 x24)))) FU
def sX_word (w : Wd) (a1 : Nat) (a2 : Int32) : Option (Int32 × Wd) :=
  jn (fun z1 => nm z1 fun x3 => nm (-1 : Int32) fun x4 => nm (0 : Int32) fun x5 => jn (fun x6 => if x6 = (-1 : Int32) then (nm (stG w 90 24 (1 : Int32)) fun w10 => some (x6, w10)) else (rd (decide (a1 = 100 ∨ a1 = 101) && inb x6 (tLen a1)) (tOff a1 + Int32.toNatClampNeg x6) fun k8 => bd (sX_signs w k8) fun w9 => some (x6, w9))) fun J7 => sX_word_L39 w a1 a2 x3 J7 x4 x5) fun J2 => if (w.2.1 90 22) ≤ ((w.2.1 90 23) + a2) then (J2 (-1 : Int32)) else (rd (inb ((w.2.1 90 23) + a2) 120) (w.2.1 21 (Int32.toNatClampNeg ((w.2.1 90 23) + a2))) fun v25 => J2 (v25 &&& (255 : Int32)))
abbrev rmX0_word : Room := { frames := 5, cells := 0, slots := 0, locals := 107 }
theorem pkX0_word : PkV yX0_word RX0 cX0_word 6 (some .int) 2 := ⟨q626, qs17, q57, q627, by decide +kernel⟩
set_option maxHeartbeats 4000000 in
theorem met_X0_word (l : Launch) (D : va_G) (g : Nat → ClassId) (ad sd : Nat → Nat) (w : Wd) (a1 : Nat) (a2 : Int32) (sz : Nat) (r : Int32) (w' : Wd) (ho : sX_word w a1 a2 = some (r, w')) : Met l yX0_word (ws_ yX0_word cX0_word 6 (some .int)) rmX0_word (va_Pc [.ref (ad 99), .ref (sd a1), .int a2] (MPre D vwCl (tysG g) (cellsX g ad w) (NXX sd (cellsX g ad w)) sz)) (QcI D vwCl (tysG g) (cellsX g ad w') r (va_A (cellsX g ad w) sz)) 0 0 (va_A (cellsX g ad w) sz) := by
  refine met_XJ (cw := cellsX g ad) (w := w) (cc := cX0_word) (lv := [(0, .ref (ad 99)), (1, .ref (sd a1)), (2, .int a2)]) pnX0 _ (Nat.le_of_ble_eq_true rfl) rfl ?_
  intro p e s m args below meth c R Q A B hN hr hsz hA hmm hRm hQ hAe
  have hX : NXA sd A s := by rw [hAe, ← hsz]; exact hN
  unfold sX_word at ho
  refine j_aload_n B eX0_word_0 0 rfl ?_
  refine gfX_23 B eX0_word_1 ?_
  refine j_iload_n B eX0_word_4 2 rfl ?_
  refine j_iadd B eX0_word_5 ?_
  refine j_aload_n B eX0_word_6 0 rfl ?_
  refine gfX_22 B eX0_word_7 ?_
  refine jn1 (C := fun z1 => XJ p l e R s m args below meth c 0 0 Q A D vwCl (cellsX g ad) 6 w 32 [(0, .ref (ad 99)), (1, .ref (sd a1)), (2, .int a2)] [.int z1]) ho (fun z1 ho => ?_) (fun J2 hJ2 ho => ?_)
  · refine j_istore_n (lv' := fun x3 => [(0, .ref (ad 99)), (1, .ref (sd a1)), (2, .int a2), (3, .int x3)]) B eX0_word_32 [1, 2, 3, 0] (by decide) (fun _ => rfl) ho (fun x3 ho => ?_)
    refine j_const B eX0_word_33 ?_
    refine j_istore (lv' := fun x4 => [(0, .ref (ad 99)), (1, .ref (sd a1)), (2, .int a2), (3, .int x3), (4, .int x4)]) B eX0_word_34 [1, 2, 3, 4, 0] (by decide) (fun _ => rfl) ho (fun x4 ho => ?_)
    refine j_const B eX0_word_36 ?_
    refine j_istore (lv' := fun x5 => [(0, .ref (ad 99)), (1, .ref (sd a1)), (2, .int a2), (3, .int x3), (4, .int x4), (5, .int x5)]) B eX0_word_37 [1, 2, 3, 4, 5, 0] (by decide) (fun _ => rfl) ho (fun x5 ho => ?_)
    refine jn1 (C := fun x6 => XJ p l e R s m args below meth c 0 0 Q A D vwCl (cellsX g ad) 6 w 92 [(0, .ref (ad 99)), (1, .ref (sd a1)), (4, .int x6)] []) ho (fun x6 ho => ?_) (fun J7 hJ7 ho => ?_)
    · refine j_iload B eX0_word_92 2 rfl ?_
      refine j_const B eX0_word_94 ?_
      refine j_icmp_ne B eX0_word_95 ho (fun _ ho => ?_) (fun _ ho => ?_)
      · refine j_aload_n B eX0_word_106 0 rfl ?_
        refine j_aload_n B eX0_word_107 1 rfl ?_
        refine j_iload B eX0_word_108 2 rfl ?_
        refine alT B hX eX0_word_110 ho (fun k8 ho => ?_)
        refine j_callVvw (As := [.ref (sd k8)]) B hA (met_X0_signs l D g ad sd w k8) (NXX_ok hX) pkX0_signs q570 0 rfl rfl rfl rfl hRm ⟨Nat.le_of_ble_eq_true rfl, Nat.le_of_ble_eq_true rfl⟩ rfl rfl (Nat.le_of_ble_eq_true rfl) ⟨Nat.zero_le _, Nat.zero_le _⟩ eX0_word_111 ho (fun w9 ho => ?_)
        refine j_iload B eX0_word_114 2 rfl ?_
        exact j_iretw B hr hQ eX0_word_116 ho
      · refine j_aload_n B eX0_word_98 0 rfl ?_
        refine j_const B eX0_word_99 ?_
        refine pfX_24 B rfl eX0_word_100 ho (fun w10 ho => ?_)
        refine j_goto B eX0_word_103 ?_
        refine j_iload B eX0_word_114 2 rfl ?_
        exact j_iretw B hr hQ eX0_word_116 ho
    · unfold sX_word_L39 at ho
      refine fx2 (C := fun x11 x12 => XJ p l e R s m args below meth c 0 0 Q A D vwCl (cellsX g ad) 6 w 39 [(0, .ref (ad 99)), (1, .ref (sd a1)), (2, .int a2), (3, .int x3), (4, .int x11), (5, .int x12)] []) (fun self13 hself13 x11 x12 ho => ?_) FU _ _ ho
      refine j_iload B eX0_word_39 5 rfl ?_
      refine j_aload_n B eX0_word_41 1 rfl ?_
      refine lenT B hX eX0_word_42 ho (fun v14 ho => ?_)
      refine j_icmp_ge B eX0_word_43 ho (fun _ ho => ?_) (fun _ ho => ?_)
      · refine j_lsub (lv' := [(0, .ref (ad 99)), (1, .ref (sd a1)), (4, .int x11)]) [0, 1, 4] rfl ?_
        exact hJ7 _ ho
      · refine j_aload_n B eX0_word_46 1 rfl ?_
        refine j_iload B eX0_word_47 5 rfl ?_
        refine alT B hX eX0_word_49 ho (fun k15 ho => ?_)
        refine j_const B eX0_word_50 ?_
        refine cS_charAt B hA hX hRm ⟨Nat.le_of_ble_eq_true rfl, Nat.le_of_ble_eq_true rfl⟩ (Nat.le_of_ble_eq_true rfl) ⟨Nat.zero_le _, Nat.zero_le _⟩ eX0_word_51 ho (fun v16 ho => ?_)
        refine j_aload_n B eX0_word_54 0 rfl ?_
        refine j_callVi (As := []) B hA (met_X0_now l D g ad sd w) (NXX_ok hX) pkX0_now q564 0 rfl rfl rfl rfl hRm ⟨Nat.le_of_ble_eq_true rfl, Nat.le_of_ble_eq_true rfl⟩ rfl rfl (Nat.le_of_ble_eq_true rfl) ⟨Nat.zero_le _, Nat.zero_le _⟩ eX0_word_55 ho (fun v17 ho => ?_)
        refine j_icmp_eq B eX0_word_58 ho (fun _ ho => ?_) (fun _ ho => ?_)
        · refine j_iload B eX0_word_64 4 rfl ?_
          refine j_const B eX0_word_66 ?_
          refine jn0 (C := XJ p l e R s m args below meth c 0 0 Q A D vwCl (cellsX g ad) 6 w 82 [(0, .ref (ad 99)), (1, .ref (sd a1)), (2, .int a2), (3, .int x3), (5, .int x12)] []) ho (fun ho => ?_) (fun J18 hJ18 ho => ?_)
          · refine j_iload B eX0_word_82 4 rfl ?_
            refine j_istore (lv' := fun x19 => [(0, .ref (ad 99)), (1, .ref (sd a1)), (2, .int a2), (3, .int x3), (4, .int x19), (5, .int x12)]) B eX0_word_84 [1, 2, 3, 4, 0, 5] (by decide) (fun _ => rfl) ho (fun x19 ho => ?_)
            refine j_iinc (d := 1) (lv' := fun x20 => [(0, .ref (ad 99)), (1, .ref (sd a1)), (2, .int a2), (3, .int x3), (4, .int x19), (5, .int x20)]) B eX0_word_86 5 rfl (by decide) [1, 2, 3, 4, 5, 0] (by decide) (fun _ => rfl) ho (fun x20 ho => ?_)
            refine j_goto B eX0_word_89 ?_
            exact hself13 _ _ ho
          · refine j_icmp_eq B eX0_word_67 ho (fun _ ho => ?_) (fun _ ho => ?_)
            · refine j_lsub (lv' := [(0, .ref (ad 99)), (1, .ref (sd a1)), (2, .int a2), (3, .int x3), (5, .int x12)]) [0, 1, 2, 3, 5] rfl ?_
              exact hJ18 ho
            · refine j_aload_n B eX0_word_70 1 rfl ?_
              refine j_iload B eX0_word_71 5 rfl ?_
              refine alT B hX eX0_word_73 ho (fun k21 ho => ?_)
              refine j_iload_n B eX0_word_74 2 rfl ?_
              refine cS_charAt B hA hX hRm ⟨Nat.le_of_ble_eq_true rfl, Nat.le_of_ble_eq_true rfl⟩ (Nat.le_of_ble_eq_true rfl) ⟨Nat.zero_le _, Nat.zero_le _⟩ eX0_word_75 ho (fun v22 ho => ?_)
              refine j_iload_n B eX0_word_78 3 rfl ?_
              refine j_icmp_ne B eX0_word_79 ho (fun _ ho => ?_) (fun _ ho => ?_)
              · refine j_iinc (d := 1) (lv' := fun x23 => [(0, .ref (ad 99)), (1, .ref (sd a1)), (2, .int a2), (3, .int x3), (4, .int x11), (5, .int x23)]) B eX0_word_86 5 rfl (by decide) [1, 2, 3, 4, 5, 0] (by decide) (fun _ => rfl) ho (fun x23 ho => ?_)
                refine j_goto B eX0_word_89 ?_
                exact hself13 _ _ ho
              · refine j_lsub (lv' := [(0, .ref (ad 99)), (1, .ref (sd a1)), (2, .int a2), (3, .int x3), (5, .int x12)]) [0, 1, 2, 3, 5] rfl ?_
                exact hJ18 ho
        · refine j_goto B eX0_word_61 ?_
          refine j_iinc (d := 1) (lv' := fun x24 => [(0, .ref (ad 99)), (1, .ref (sd a1)), (2, .int a2), (3, .int x3), (4, .int x11), (5, .int x24)]) B eX0_word_86 5 rfl (by decide) [1, 2, 3, 4, 5, 0] (by decide) (fun _ => rfl) ho (fun x24 ho => ?_)
          refine j_goto B eX0_word_89 ?_
          exact hself13 _ _ ho
  · refine j_icmp_ge B eX0_word_10 ho (fun _ ho => ?_) (fun _ ho => ?_)
    · refine j_const B eX0_word_31 ?_
      exact hJ2 _ ho
    · refine j_aload_n B eX0_word_13 0 rfl ?_
      refine gfX_21 B eX0_word_14 ?_
      refine j_aload_n B eX0_word_17 0 rfl ?_
      refine gfX_23 B eX0_word_18 ?_
      refine j_iload_n B eX0_word_21 2 rfl ?_
      refine j_iadd B eX0_word_22 ?_
      refine ldX_21 B eX0_word_23 ho (fun v25 ho => ?_)
      refine j_const B eX0_word_24 ?_
      refine j_iand B eX0_word_27 ?_
      refine j_goto B eX0_word_28 ?_
      exact hJ2 _ ho
def sX_test_L109 (J19 : Int32 → Int32 → Wd → Option (Wd)) : Int32 → Int32 → Wd → Option (Wd) :=
  fx (fun _ _ _ => none) (fun self30 x27 x28 w29 =>
    if (w29.2.1 90 24) = 0 then (if (3 : Int32) ≤ x28 then (J19 x27 x28 w29) else (bd (sX_now w29) fun v31 => bd (sX_in (Int32.toInt64 v31) (48 : Int64) (57 : Int64)) fun v32 => if v32 = 0 then (J19 x27 x28 w29) else (bd (sX_now w29) fun v33 => nm ((((10 : Int32) * x27) + v33) - (48 : Int32)) fun x34 => nm (stG w29 90 23 ((w29.2.1 90 23) + (1 : Int32))) fun w35 => nm (x28 + (1 : Int32)) fun x36 => self30 x34 x36 w35))) else (J19 x27 x28 w29)) FU
def sX_test (w : Wd) (a1 : Nat) : Option (Wd) :=
  bd (sX_now w) fun v1 => jn (fun w2 => gd (decide (a1 < w2.1 2)) (rd (decide (a1 < w2.1 2)) (w2.2.1 (103 + 10 * a1) 2) fun v4 => bd2 (sX_word w2 100 (1 : Int32)) fun v5 w6 => rd (decide (a1 < w6.1 2) && inb v4 3) (stG w6 (104 + 10 * a1) (Int32.toNatClampNeg v4) v5) fun w7 => if (w7.2.1 90 24) = 0 then (gd (decide (a1 < w7.1 2)) (rd (decide (a1 < w7.1 2)) (w7.2.1 (103 + 10 * a1) 2) fun v8 => bd (sX_now w7) fun v9 => rd (decide (a1 < w7.1 2) && inb v8 3) (stG w7 (105 + 10 * a1) (Int32.toNatClampNeg v8) v9) fun w10 => bd (sX_now w10) fun v11 => jn (fun w12 => nm (0 : Int32) fun x14 => nm (0 : Int32) fun x15 => jn (fun x16 x17 w18 => jn (fun w20 => gd (decide (a1 < w20.1 2)) (rd (decide (a1 < w20.1 2)) (w20.2.1 (103 + 10 * a1) 2) fun v22 => rd (decide (a1 < w20.1 2) && inb v22 3) (stG w20 (106 + 10 * a1) (Int32.toNatClampNeg v22) x16) fun w23 => rd (decide (a1 < w23.1 2)) (w23.2.1 (103 + 10 * a1) 2) fun v24 => rd (decide (a1 < w23.1 2)) (stG w23 (103 + 10 * a1) 2 (v24 + (1 : Int32))) fun w25 => some w25)) fun J21 => if x17 = 0 then (nm (stG w18 90 24 (1 : Int32)) fun w26 => J21 w26) else (J21 w18)) fun J19 => sX_test_L109 J19 x14 x15 w12) fun J13 => jn (nm (stG w10 90 23 ((w10.2.1 90 23) + (1 : Int32))) fun w38 => J13 w38) fun J37 => if v11 = (60 : Int32) then (J37) else (bd (sX_now w10) fun v39 => if v39 = (62 : Int32) then (J37) else (bd (sX_signs w10 12) fun w40 => J13 w40)))) else (some w7))) fun J3 => if v1 = (33 : Int32) then (nm (stG w 90 23 ((w.2.1 90 23) + (1 : Int32))) fun w41 => gd (decide (a1 < w41.1 2)) (rd (decide (a1 < w41.1 2)) (w41.2.1 (103 + 10 * a1) 2) fun v42 => rd (decide (a1 < w41.1 2) && inb v42 3) (stG w41 (107 + 10 * a1) (Int32.toNatClampNeg v42) (vp_nar .boolean (1 : Int32))) fun w43 => J3 w43)) else (J3 w)
abbrev rmX0_test : Room := { frames := 6, cells := 0, slots := 0, locals := 132 }
theorem pkX0_test : PkV yX0_test RX0 cX0_test 4 (none) 1 := ⟨q631, qs18, q57, q632, by decide +kernel⟩
set_option maxHeartbeats 4000000 in
theorem met_X0_test (l : Launch) (D : va_G) (g : Nat → ClassId) (ad sd : Nat → Nat) (w : Wd) (a1 : Nat) (sz : Nat) (w' : Wd) (ho : sX_test w a1 = some w') : Met l yX0_test (ws_ yX0_test cX0_test 4 (none)) rmX0_test (va_Pc [.ref (ad 99), .ref (ad (103 + 10 * a1))] (MPre D vwCl (tysG g) (cellsX g ad w) (NXX sd (cellsX g ad w)) sz)) (QcV D vwCl (tysG g) (cellsX g ad w') (va_A (cellsX g ad w) sz)) 0 0 (va_A (cellsX g ad w) sz) := by
  refine met_XJ (cw := cellsX g ad) (w := w) (cc := cX0_test) (lv := [(0, .ref (ad 99)), (1, .ref (ad (103 + 10 * a1)))]) pnX0 _ (Nat.le_of_ble_eq_true rfl) rfl ?_
  intro p e s m args below meth c R Q A B hN hr hsz hA hmm hRm hQ hAe
  have hX : NXA sd A s := by rw [hAe, ← hsz]; exact hN
  unfold sX_test at ho
  refine j_aload_n B eX0_test_0 0 rfl ?_
  refine j_callVi (As := []) B hA (met_X0_now l D g ad sd w) (NXX_ok hX) pkX0_now q564 0 rfl rfl rfl rfl hRm ⟨Nat.le_of_ble_eq_true rfl, Nat.le_of_ble_eq_true rfl⟩ rfl rfl (Nat.le_of_ble_eq_true rfl) ⟨Nat.zero_le _, Nat.zero_le _⟩ eX0_test_1 ho (fun v1 ho => ?_)
  refine j_const B eX0_test_4 ?_
  refine jn1 (C := fun w2 => XJ p l e R s m args below meth c 0 0 Q A D vwCl (cellsX g ad) 4 w2 29 [(0, .ref (ad 99)), (1, .ref (ad (103 + 10 * a1)))] []) ho (fun w2 ho => ?_) (fun J3 hJ3 ho => ?_)
  · refine j_aload_n B eX0_test_29 1 rfl ?_
    refine gfRNr (j := 3) B hX (by decide) nq535 rfl eX0_test_30 ho (fun ho => ?_)
    refine j_aload_n B eX0_test_33 1 rfl ?_
    refine gfRN (j := 2) B hX (by decide) nq533 rfl eX0_test_34 ho (fun v4 ho => ?_)
    refine j_aload_n B eX0_test_37 0 rfl ?_
    refine gsT100 B hX eX0_test_38 ?_
    refine j_const B eX0_test_41 ?_
    refine j_callViw (As := [.ref (sd 100), .int (1 : Int32)]) B hA (met_X0_word l D g ad sd w2 100 (1 : Int32)) (NXX_ok hX) pkX0_word q624 0 rfl rfl rfl rfl hRm ⟨Nat.le_of_ble_eq_true rfl, Nat.le_of_ble_eq_true rfl⟩ rfl rfl (Nat.le_of_ble_eq_true rfl) ⟨Nat.zero_le _, Nat.zero_le _⟩ eX0_test_42 ho (fun v5 w6 ho => ?_)
    refine stR4 B eX0_test_45 ho (fun w7 ho => ?_)
    refine j_aload_n B eX0_test_46 0 rfl ?_
    refine gfX_24 B eX0_test_47 ?_
    refine j_if_eq B eX0_test_50 ho (fun _ ho => ?_) (fun _ ho => ?_)
    · refine j_aload_n B eX0_test_54 1 rfl ?_
      refine gfRNr (j := 4) B hX (by decide) nq537 rfl eX0_test_55 ho (fun ho => ?_)
      refine j_aload_n B eX0_test_58 1 rfl ?_
      refine gfRN (j := 2) B hX (by decide) nq533 rfl eX0_test_59 ho (fun v8 ho => ?_)
      refine j_aload_n B eX0_test_62 0 rfl ?_
      refine j_callVi (As := []) B hA (met_X0_now l D g ad sd w7) (NXX_ok hX) pkX0_now q564 0 rfl rfl rfl rfl hRm ⟨Nat.le_of_ble_eq_true rfl, Nat.le_of_ble_eq_true rfl⟩ rfl rfl (Nat.le_of_ble_eq_true rfl) ⟨Nat.zero_le _, Nat.zero_le _⟩ eX0_test_63 ho (fun v9 ho => ?_)
      refine stR5 B eX0_test_66 ho (fun w10 ho => ?_)
      refine j_aload_n B eX0_test_67 0 rfl ?_
      refine j_callVi (As := []) B hA (met_X0_now l D g ad sd w10) (NXX_ok hX) pkX0_now q564 0 rfl rfl rfl rfl hRm ⟨Nat.le_of_ble_eq_true rfl, Nat.le_of_ble_eq_true rfl⟩ rfl rfl (Nat.le_of_ble_eq_true rfl) ⟨Nat.zero_le _, Nat.zero_le _⟩ eX0_test_68 ho (fun v11 ho => ?_)
      refine j_const B eX0_test_71 ?_
      refine jn1 (C := fun w12 => XJ p l e R s m args below meth c 0 0 Q A D vwCl (cellsX g ad) 4 w12 105 [(0, .ref (ad 99)), (1, .ref (ad (103 + 10 * a1)))] []) ho (fun w12 ho => ?_) (fun J13 hJ13 ho => ?_)
      · refine j_const B eX0_test_105 ?_
        refine j_istore_n (lv' := fun x14 => [(0, .ref (ad 99)), (1, .ref (ad (103 + 10 * a1))), (2, .int x14)]) B eX0_test_106 [1, 2, 0] (by decide) (fun _ => rfl) ho (fun x14 ho => ?_)
        refine j_const B eX0_test_107 ?_
        refine j_istore_n (lv' := fun x15 => [(0, .ref (ad 99)), (1, .ref (ad (103 + 10 * a1))), (2, .int x14), (3, .int x15)]) B eX0_test_108 [1, 2, 3, 0] (by decide) (fun _ => rfl) ho (fun x15 ho => ?_)
        refine jn3 (C := fun x16 x17 w18 => XJ p l e R s m args below meth c 0 0 Q A D vwCl (cellsX g ad) 4 w18 167 [(0, .ref (ad 99)), (1, .ref (ad (103 + 10 * a1))), (2, .int x16), (3, .int x17)] []) ho (fun x16 x17 w18 ho => ?_) (fun J19 hJ19 ho => ?_)
        · refine j_iload_n B eX0_test_167 3 rfl ?_
          refine jn1 (C := fun w20 => XJ p l e R s m args below meth c 0 0 Q A D vwCl (cellsX g ad) 4 w20 176 [(1, .ref (ad (103 + 10 * a1))), (2, .int x16)] []) ho (fun w20 ho => ?_) (fun J21 hJ21 ho => ?_)
          · refine j_aload_n B eX0_test_176 0 rfl ?_
            refine gfRNr (j := 5) B hX (by decide) nq539 rfl eX0_test_177 ho (fun ho => ?_)
            refine j_aload_n B eX0_test_180 0 rfl ?_
            refine gfRN (j := 2) B hX (by decide) nq533 rfl eX0_test_181 ho (fun v22 ho => ?_)
            refine j_iload_n B eX0_test_184 1 rfl ?_
            refine stR6 B eX0_test_185 ho (fun w23 ho => ?_)
            refine j_aload_n B eX0_test_186 0 rfl ?_
            refine j_dup B eX0_test_187 rfl ?_
            refine gfRN (j := 2) B hX (by decide) nq533 rfl eX0_test_188 ho (fun v24 ho => ?_)
            refine j_const B eX0_test_191 ?_
            refine j_iadd B eX0_test_192 ?_
            refine pfRN (j := 2) B hX (by decide) (Or.inr (Or.inr rfl)) rfl rfl nq533 eX0_test_193 ho (fun w25 ho => ?_)
            exact j_vretw B hr hQ eX0_test_196 ho
          · refine j_if_ne B eX0_test_168 ho (fun _ ho => ?_) (fun _ ho => ?_)
            · refine j_lsub (lv' := [(1, .ref (ad (103 + 10 * a1))), (2, .int x16)]) [1, 2] rfl ?_
              exact hJ21 _ ho
            · refine j_aload_n B eX0_test_171 0 rfl ?_
              refine j_const B eX0_test_172 ?_
              refine pfX_24 B rfl eX0_test_173 ho (fun w26 ho => ?_)
              refine j_lsub (lv' := [(1, .ref (ad (103 + 10 * a1))), (2, .int x16)]) [1, 2] rfl ?_
              exact hJ21 _ ho
        · unfold sX_test_L109 at ho
          refine fx3 (C := fun x27 x28 w29 => XJ p l e R s m args below meth c 0 0 Q A D vwCl (cellsX g ad) 4 w29 109 [(0, .ref (ad 99)), (1, .ref (ad (103 + 10 * a1))), (2, .int x27), (3, .int x28)] []) (fun self30 hself30 x27 x28 w29 ho => ?_) FU _ _ _ ho
          refine j_aload_n B eX0_test_109 0 rfl ?_
          refine gfX_24 B eX0_test_110 ?_
          refine j_if_ne B eX0_test_113 ho (fun _ ho => ?_) (fun _ ho => ?_)
          · exact hJ19 _ _ _ ho
          · refine j_iload_n B eX0_test_116 3 rfl ?_
            refine j_const B eX0_test_117 ?_
            refine j_icmp_ge B eX0_test_118 ho (fun _ ho => ?_) (fun _ ho => ?_)
            · exact hJ19 _ _ _ ho
            · refine j_aload_n B eX0_test_121 0 rfl ?_
              refine j_callVi (As := []) B hA (met_X0_now l D g ad sd w29) (NXX_ok hX) pkX0_now q564 0 rfl rfl rfl rfl hRm ⟨Nat.le_of_ble_eq_true rfl, Nat.le_of_ble_eq_true rfl⟩ rfl rfl (Nat.le_of_ble_eq_true rfl) ⟨Nat.zero_le _, Nat.zero_le _⟩ eX0_test_122 ho (fun v31 ho => ?_)
              refine j_i2l B eX0_test_125 ?_
              refine j_ldc2 B eX0_test_126 q636 ?_
              refine j_ldc2 B eX0_test_129 q637 ?_
              refine j_callSi (As := [.long (Int32.toInt64 v31), .long (48 : Int64), .long (57 : Int64)]) B hA (met_X0_in l D _ _ _ (Int32.toInt64 v31) (48 : Int64) (57 : Int64)) NT_ok pkX0_in q224 rfl rfl hRm ⟨Nat.le_of_ble_eq_true rfl, Nat.le_of_ble_eq_true rfl⟩ rfl rfl (Nat.le_of_ble_eq_true rfl) ⟨Nat.zero_le _, Nat.zero_le _⟩ eX0_test_132 ho (fun v32 ho => ?_)
              refine j_if_eq B eX0_test_135 ho (fun _ ho => ?_) (fun _ ho => ?_)
              · exact hJ19 _ _ _ ho
              · refine j_const B eX0_test_138 ?_
                refine j_iload_n B eX0_test_140 2 rfl ?_
                refine j_imul B eX0_test_141 ?_
                refine j_aload_n B eX0_test_142 0 rfl ?_
                refine j_callVi (As := []) B hA (met_X0_now l D g ad sd w29) (NXX_ok hX) pkX0_now q564 0 rfl rfl rfl rfl hRm ⟨Nat.le_of_ble_eq_true rfl, Nat.le_of_ble_eq_true rfl⟩ rfl rfl (Nat.le_of_ble_eq_true rfl) ⟨Nat.zero_le _, Nat.zero_le _⟩ eX0_test_143 ho (fun v33 ho => ?_)
                refine j_iadd B eX0_test_146 ?_
                refine j_const B eX0_test_147 ?_
                refine j_isub B eX0_test_149 ?_
                refine j_istore_n (lv' := fun x34 => [(0, .ref (ad 99)), (1, .ref (ad (103 + 10 * a1))), (2, .int x34), (3, .int x28)]) B eX0_test_150 [1, 2, 0, 3] (by decide) (fun _ => rfl) ho (fun x34 ho => ?_)
                refine j_aload_n B eX0_test_151 0 rfl ?_
                refine j_dup B eX0_test_152 rfl ?_
                refine gfX_23 B eX0_test_153 ?_
                refine j_const B eX0_test_156 ?_
                refine j_iadd B eX0_test_157 ?_
                refine pfX_23 B eX0_test_158 ho (fun w35 ho => ?_)
                refine j_iinc (d := 1) (lv' := fun x36 => [(0, .ref (ad 99)), (1, .ref (ad (103 + 10 * a1))), (2, .int x34), (3, .int x36)]) B eX0_test_161 3 rfl (by decide) [1, 2, 3, 0] (by decide) (fun _ => rfl) ho (fun x36 ho => ?_)
                refine j_goto B eX0_test_164 ?_
                exact hself30 _ _ _ ho
      · refine jn0 (C := XJ p l e R s m args below meth c 0 0 Q A D vwCl (cellsX g ad) 4 w10 85 [(0, .ref (ad 99)), (1, .ref (ad (103 + 10 * a1)))] []) ho (fun ho => ?_) (fun J37 hJ37 ho => ?_)
        · refine j_aload_n B eX0_test_85 0 rfl ?_
          refine j_dup B eX0_test_86 rfl ?_
          refine gfX_23 B eX0_test_87 ?_
          refine j_const B eX0_test_90 ?_
          refine j_iadd B eX0_test_91 ?_
          refine pfX_23 B eX0_test_92 ho (fun w38 ho => ?_)
          refine j_goto B eX0_test_95 ?_
          exact hJ13 _ ho
        · refine j_icmp_eq B eX0_test_73 ho (fun _ ho => ?_) (fun _ ho => ?_)
          · exact hJ37 ho
          · refine j_aload_n B eX0_test_76 0 rfl ?_
            refine j_callVi (As := []) B hA (met_X0_now l D g ad sd w10) (NXX_ok hX) pkX0_now q564 0 rfl rfl rfl rfl hRm ⟨Nat.le_of_ble_eq_true rfl, Nat.le_of_ble_eq_true rfl⟩ rfl rfl (Nat.le_of_ble_eq_true rfl) ⟨Nat.zero_le _, Nat.zero_le _⟩ eX0_test_77 ho (fun v39 ho => ?_)
            refine j_const B eX0_test_80 ?_
            refine j_icmp_ne B eX0_test_82 ho (fun _ ho => ?_) (fun _ ho => ?_)
            · refine j_aload_n B eX0_test_98 0 rfl ?_
              refine j_ldcwS (k := 12) B hX.2.2.1 eX0_test_99 ?_
              refine j_callVvw (As := [.ref (sd 12)]) B hA (met_X0_signs l D g ad sd w10 12) (NXX_ok hX) pkX0_signs q570 0 rfl rfl rfl rfl hRm ⟨Nat.le_of_ble_eq_true rfl, Nat.le_of_ble_eq_true rfl⟩ rfl rfl (Nat.le_of_ble_eq_true rfl) ⟨Nat.zero_le _, Nat.zero_le _⟩ eX0_test_102 ho (fun w40 ho => ?_)
              exact hJ13 _ ho
            · exact hJ37 ho
    · exact j_vretw B hr hQ eX0_test_53 ho
  · refine j_icmp_ne B eX0_test_6 ho (fun _ ho => ?_) (fun _ ho => ?_)
    · exact hJ3 _ ho
    · refine j_aload_n B eX0_test_9 0 rfl ?_
      refine j_dup B eX0_test_10 rfl ?_
      refine gfX_23 B eX0_test_11 ?_
      refine j_const B eX0_test_14 ?_
      refine j_iadd B eX0_test_15 ?_
      refine pfX_23 B eX0_test_16 ho (fun w41 ho => ?_)
      refine j_aload_n B eX0_test_19 1 rfl ?_
      refine gfRNr (j := 6) B hX (by decide) nq541 rfl eX0_test_20 ho (fun ho => ?_)
      refine j_aload_n B eX0_test_23 1 rfl ?_
      refine gfRN (j := 2) B hX (by decide) nq533 rfl eX0_test_24 ho (fun v42 ho => ?_)
      refine j_const B eX0_test_27 ?_
      refine stR7 B eX0_test_28 ho (fun w43 ho => ?_)
      exact hJ3 _ ho
def sX_read_L134 (a1 : Nat) : Int32 → Wd → Option (Wd) :=
  fx (fun _ _ => none) (fun self20 x18 w19 =>
    if x18 = 0 then (some w19) else (bd (sX_test w19 a1) fun w21 => jn (fun z22 => nm z22 fun x24 => jn (fun w25 => jn (fun w27 => jn (fun z29 => nm z29 fun x31 => self20 x31 w27) fun J30 => if x24 = 0 then (J30 (0 : Int32)) else (if (w27.2.1 90 24) = 0 then (J30 (1 : Int32)) else (J30 (0 : Int32)))) fun J28 => if x24 = 0 then (J28 w25) else (bd (sX_signs w25 16) fun w32 => J28 w32)) fun J26 => if x24 = 0 then (J26 w21) else (rd (decide (a1 < w21.1 2)) (w21.2.1 (103 + 10 * a1) 2) fun v33 => if v33 = (3 : Int32) then (nm (stG w21 90 24 (1 : Int32)) fun w34 => J26 w34) else (J26 w21))) fun J23 => if (w21.2.1 90 24) = 0 then (if (w21.2.1 90 22) ≤ (w21.2.1 90 23) then (J23 (0 : Int32)) else (J23 (1 : Int32))) else (J23 (0 : Int32)))) FU
def sX_read (w : Wd) (a1 : Nat) : Option (Wd) :=
  nm (stG w 90 23 (0 : Int32)) fun w1 => nm (stG w1 90 24 (0 : Int32)) fun w2 => bd (sX_now w2) fun v3 => jn (fun z4 => rd (decide (a1 < w2.1 2) && isB z4) (stG w2 (103 + 10 * a1) 0 z4) fun w6 => rd (decide (a1 < w6.1 2)) (w6.2.1 (103 + 10 * a1) 0) fun v7 => jn (fun z8 => bd (sX_signs w6 z8) fun w10 => if (w10.2.1 90 24) = 0 then (bd (sX_now w10) fun v11 => jn (fun w12 => if (w12.2.1 90 24) = 0 then (if (w12.2.1 90 23) = (w12.2.1 90 22) then (some w12) else (bd (sX_signs w12 15) fun w14 => jn (fun z15 => nm z15 fun x17 => sX_read_L134 a1 x17 w14) fun J16 => if (w14.2.1 90 24) = 0 then (J16 (1 : Int32)) else (J16 (0 : Int32)))) else (some w12)) fun J13 => if v11 = (42 : Int32) then (nm (stG w10 90 23 ((w10.2.1 90 23) + (1 : Int32))) fun w38 => rd (decide (a1 < w38.1 2)) (stG w38 (103 + 10 * a1) 1 (-1 : Int32)) fun w39 => J13 w39) else (bd2 (sX_word w10 101 (1 : Int32)) fun v35 w36 => rd (decide (a1 < w36.1 2)) (stG w36 (103 + 10 * a1) 1 v35) fun w37 => J13 w37)) else (some w10)) fun J9 => if v7 = 0 then (J9 14) else (J9 13)) fun J5 => if v3 = (98 : Int32) then (J5 (1 : Int32)) else (J5 (0 : Int32))
abbrev rmX0_read : Room := { frames := 7, cells := 0, slots := 0, locals := 155 }
theorem pkX0_read : PkV yX0_read RX0 cX0_read 3 (none) 1 := ⟨q562, qs14, q57, q563, by decide +kernel⟩
set_option maxHeartbeats 4000000 in
theorem met_X0_read (l : Launch) (D : va_G) (g : Nat → ClassId) (ad sd : Nat → Nat) (w : Wd) (a1 : Nat) (sz : Nat) (w' : Wd) (ho : sX_read w a1 = some w') : Met l yX0_read (ws_ yX0_read cX0_read 3 (none)) rmX0_read (va_Pc [.ref (ad 99), .ref (ad (103 + 10 * a1))] (MPre D vwCl (tysG g) (cellsX g ad w) (NXX sd (cellsX g ad w)) sz)) (QcV D vwCl (tysG g) (cellsX g ad w') (va_A (cellsX g ad w) sz)) 0 0 (va_A (cellsX g ad w) sz) := by
  refine met_XJ (cw := cellsX g ad) (w := w) (cc := cX0_read) (lv := [(0, .ref (ad 99)), (1, .ref (ad (103 + 10 * a1)))]) pnX0 _ (Nat.le_of_ble_eq_true rfl) rfl ?_
  intro p e s m args below meth c R Q A B hN hr hsz hA hmm hRm hQ hAe
  have hX : NXA sd A s := by rw [hAe, ← hsz]; exact hN
  unfold sX_read at ho
  refine j_aload_n B eX0_read_0 0 rfl ?_
  refine j_const B eX0_read_1 ?_
  refine pfX_23 B eX0_read_2 ho (fun w1 ho => ?_)
  refine j_aload_n B eX0_read_5 0 rfl ?_
  refine j_const B eX0_read_6 ?_
  refine pfX_24 B rfl eX0_read_7 ho (fun w2 ho => ?_)
  refine j_aload_n B eX0_read_10 1 rfl ?_
  refine j_aload_n B eX0_read_11 0 rfl ?_
  refine j_callVi (As := []) B hA (met_X0_now l D g ad sd w2) (NXX_ok hX) pkX0_now q564 0 rfl rfl rfl rfl hRm ⟨Nat.le_of_ble_eq_true rfl, Nat.le_of_ble_eq_true rfl⟩ rfl rfl (Nat.le_of_ble_eq_true rfl) ⟨Nat.zero_le _, Nat.zero_le _⟩ eX0_read_12 ho (fun v3 ho => ?_)
  refine j_const B eX0_read_15 ?_
  refine jn1 (C := fun z4 => XJ p l e R s m args below meth c 0 0 Q A D vwCl (cellsX g ad) 3 w2 25 [(0, .ref (ad 99)), (1, .ref (ad (103 + 10 * a1)))] [.int z4, .ref (ad (103 + 10 * a1))]) ho (fun z4 ho => ?_) (fun J5 hJ5 ho => ?_)
  · refine pfRNZ (j := 0) B hX (by decide) (Or.inl rfl) rfl rfl nq529 eX0_read_25 ho (fun w6 ho => ?_)
    refine j_aload_n B eX0_read_28 0 rfl ?_
    refine j_aload_n B eX0_read_29 1 rfl ?_
    refine gfRN (j := 0) B hX (by decide) nq529 rfl eX0_read_30 ho (fun v7 ho => ?_)
    refine jn1 (C := fun z8 => XJ p l e R s m args below meth c 0 0 Q A D vwCl (cellsX g ad) 3 w6 45 [(0, .ref (ad 99)), (1, .ref (ad (103 + 10 * a1)))] [.ref (sd z8), .ref (ad 99)]) ho (fun z8 ho => ?_) (fun J9 hJ9 ho => ?_)
    · refine j_callVvw (As := [.ref (sd z8)]) B hA (met_X0_signs l D g ad sd w6 z8) (NXX_ok hX) pkX0_signs q570 0 rfl rfl rfl rfl hRm ⟨Nat.le_of_ble_eq_true rfl, Nat.le_of_ble_eq_true rfl⟩ rfl rfl (Nat.le_of_ble_eq_true rfl) ⟨Nat.zero_le _, Nat.zero_le _⟩ eX0_read_45 ho (fun w10 ho => ?_)
      refine j_aload_n B eX0_read_48 0 rfl ?_
      refine gfX_24 B eX0_read_49 ?_
      refine j_if_eq B eX0_read_52 ho (fun _ ho => ?_) (fun _ ho => ?_)
      · refine j_aload_n B eX0_read_56 0 rfl ?_
        refine j_callVi (As := []) B hA (met_X0_now l D g ad sd w10) (NXX_ok hX) pkX0_now q564 0 rfl rfl rfl rfl hRm ⟨Nat.le_of_ble_eq_true rfl, Nat.le_of_ble_eq_true rfl⟩ rfl rfl (Nat.le_of_ble_eq_true rfl) ⟨Nat.zero_le _, Nat.zero_le _⟩ eX0_read_57 ho (fun v11 ho => ?_)
        refine j_const B eX0_read_60 ?_
        refine jn1 (C := fun w12 => XJ p l e R s m args below meth c 0 0 Q A D vwCl (cellsX g ad) 3 w12 95 [(0, .ref (ad 99)), (1, .ref (ad (103 + 10 * a1)))] []) ho (fun w12 ho => ?_) (fun J13 hJ13 ho => ?_)
        · refine j_aload_n B eX0_read_95 0 rfl ?_
          refine gfX_24 B eX0_read_96 ?_
          refine j_if_ne B eX0_read_99 ho (fun _ ho => ?_) (fun _ ho => ?_)
          · exact j_vretw B hr hQ eX0_read_113 ho
          · refine j_aload_n B eX0_read_102 0 rfl ?_
            refine gfX_23 B eX0_read_103 ?_
            refine j_aload_n B eX0_read_106 0 rfl ?_
            refine gfX_22 B eX0_read_107 ?_
            refine j_icmp_ne B eX0_read_110 ho (fun _ ho => ?_) (fun _ ho => ?_)
            · refine j_aload_n B eX0_read_114 0 rfl ?_
              refine j_ldcwS (k := 15) B hX.2.2.2.2.2.1 eX0_read_115 ?_
              refine j_callVvw (As := [.ref (sd 15)]) B hA (met_X0_signs l D g ad sd w12 15) (NXX_ok hX) pkX0_signs q570 0 rfl rfl rfl rfl hRm ⟨Nat.le_of_ble_eq_true rfl, Nat.le_of_ble_eq_true rfl⟩ rfl rfl (Nat.le_of_ble_eq_true rfl) ⟨Nat.zero_le _, Nat.zero_le _⟩ eX0_read_118 ho (fun w14 ho => ?_)
              refine j_aload_n B eX0_read_121 0 rfl ?_
              refine gfX_24 B eX0_read_122 ?_
              refine jn1 (C := fun z15 => XJ p l e R s m args below meth c 0 0 Q A D vwCl (cellsX g ad) 3 w14 133 [(0, .ref (ad 99)), (1, .ref (ad (103 + 10 * a1)))] [.int z15]) ho (fun z15 ho => ?_) (fun J16 hJ16 ho => ?_)
              · refine j_istore_n (lv' := fun x17 => [(0, .ref (ad 99)), (1, .ref (ad (103 + 10 * a1))), (2, .int x17)]) B eX0_read_133 [1, 2, 0] (by decide) (fun _ => rfl) ho (fun x17 ho => ?_)
                unfold sX_read_L134 at ho
                refine fx2 (C := fun x18 w19 => XJ p l e R s m args below meth c 0 0 Q A D vwCl (cellsX g ad) 3 w19 134 [(0, .ref (ad 99)), (1, .ref (ad (103 + 10 * a1))), (2, .int x18)] []) (fun self20 hself20 x18 w19 ho => ?_) FU _ _ ho
                refine j_iload_n B eX0_read_134 2 rfl ?_
                refine j_if_eq B eX0_read_135 ho (fun _ ho => ?_) (fun _ ho => ?_)
                · exact j_vretw B hr hQ eX0_read_215 ho
                · refine j_aload_n B eX0_read_138 0 rfl ?_
                  refine j_aload_n B eX0_read_139 1 rfl ?_
                  refine j_callVvw (As := [.ref (ad (103 + 10 * a1))]) B hA (met_X0_test l D g ad sd w19 a1) (NXX_ok hX) pkX0_test q629 0 rfl rfl rfl rfl hRm ⟨Nat.le_of_ble_eq_true rfl, Nat.le_of_ble_eq_true rfl⟩ rfl rfl (Nat.le_of_ble_eq_true rfl) ⟨Nat.zero_le _, Nat.zero_le _⟩ eX0_read_140 ho (fun w21 ho => ?_)
                  refine j_aload_n B eX0_read_143 0 rfl ?_
                  refine gfX_24 B eX0_read_144 ?_
                  refine jn1 (C := fun z22 => XJ p l e R s m args below meth c 0 0 Q A D vwCl (cellsX g ad) 3 w21 166 [(0, .ref (ad 99)), (1, .ref (ad (103 + 10 * a1)))] [.int z22]) ho (fun z22 ho => ?_) (fun J23 hJ23 ho => ?_)
                  · refine j_istore_n (lv' := fun x24 => [(0, .ref (ad 99)), (1, .ref (ad (103 + 10 * a1))), (2, .int x24)]) B eX0_read_166 [1, 2, 0] (by decide) (fun _ => rfl) ho (fun x24 ho => ?_)
                    refine j_iload_n B eX0_read_167 2 rfl ?_
                    refine jn1 (C := fun w25 => XJ p l e R s m args below meth c 0 0 Q A D vwCl (cellsX g ad) 3 w25 184 [(0, .ref (ad 99)), (1, .ref (ad (103 + 10 * a1))), (2, .int x24)] []) ho (fun w25 ho => ?_) (fun J26 hJ26 ho => ?_)
                    · refine j_iload_n B eX0_read_184 2 rfl ?_
                      refine jn1 (C := fun w27 => XJ p l e R s m args below meth c 0 0 Q A D vwCl (cellsX g ad) 3 w27 195 [(0, .ref (ad 99)), (1, .ref (ad (103 + 10 * a1))), (2, .int x24)] []) ho (fun w27 ho => ?_) (fun J28 hJ28 ho => ?_)
                      · refine j_iload_n B eX0_read_195 2 rfl ?_
                        refine jn1 (C := fun z29 => XJ p l e R s m args below meth c 0 0 Q A D vwCl (cellsX g ad) 3 w27 211 [(0, .ref (ad 99)), (1, .ref (ad (103 + 10 * a1)))] [.int z29]) ho (fun z29 ho => ?_) (fun J30 hJ30 ho => ?_)
                        · refine j_istore_n (lv' := fun x31 => [(0, .ref (ad 99)), (1, .ref (ad (103 + 10 * a1))), (2, .int x31)]) B eX0_read_211 [1, 2, 0] (by decide) (fun _ => rfl) ho (fun x31 ho => ?_)
                          refine j_goto B eX0_read_212 ?_
                          exact hself20 _ _ ho
                        · refine j_if_eq B eX0_read_196 ho (fun _ ho => ?_) (fun _ ho => ?_)
                          · refine j_const B eX0_read_210 ?_
                            refine j_lsub (lv' := [(0, .ref (ad 99)), (1, .ref (ad (103 + 10 * a1)))]) [0, 1] rfl ?_
                            exact hJ30 _ ho
                          · refine j_aload_n B eX0_read_199 0 rfl ?_
                            refine gfX_24 B eX0_read_200 ?_
                            refine j_if_ne B eX0_read_203 ho (fun _ ho => ?_) (fun _ ho => ?_)
                            · refine j_const B eX0_read_210 ?_
                              refine j_lsub (lv' := [(0, .ref (ad 99)), (1, .ref (ad (103 + 10 * a1)))]) [0, 1] rfl ?_
                              exact hJ30 _ ho
                            · refine j_const B eX0_read_206 ?_
                              refine j_goto B eX0_read_207 ?_
                              refine j_lsub (lv' := [(0, .ref (ad 99)), (1, .ref (ad (103 + 10 * a1)))]) [0, 1] rfl ?_
                              exact hJ30 _ ho
                      · refine j_if_eq B eX0_read_185 ho (fun _ ho => ?_) (fun _ ho => ?_)
                        · exact hJ28 _ ho
                        · refine j_aload_n B eX0_read_188 0 rfl ?_
                          refine j_ldcwS (k := 16) B hX.2.2.2.2.2.2 eX0_read_189 ?_
                          refine j_callVvw (As := [.ref (sd 16)]) B hA (met_X0_signs l D g ad sd w25 16) (NXX_ok hX) pkX0_signs q570 0 rfl rfl rfl rfl hRm ⟨Nat.le_of_ble_eq_true rfl, Nat.le_of_ble_eq_true rfl⟩ rfl rfl (Nat.le_of_ble_eq_true rfl) ⟨Nat.zero_le _, Nat.zero_le _⟩ eX0_read_192 ho (fun w32 ho => ?_)
                          exact hJ28 _ ho
                    · refine j_if_eq B eX0_read_168 ho (fun _ ho => ?_) (fun _ ho => ?_)
                      · exact hJ26 _ ho
                      · refine j_aload_n B eX0_read_171 1 rfl ?_
                        refine gfRN (j := 2) B hX (by decide) nq533 rfl eX0_read_172 ho (fun v33 ho => ?_)
                        refine j_const B eX0_read_175 ?_
                        refine j_icmp_ne B eX0_read_176 ho (fun _ ho => ?_) (fun _ ho => ?_)
                        · exact hJ26 _ ho
                        · refine j_aload_n B eX0_read_179 0 rfl ?_
                          refine j_const B eX0_read_180 ?_
                          refine pfX_24 B rfl eX0_read_181 ho (fun w34 ho => ?_)
                          exact hJ26 _ ho
                  · refine j_if_ne B eX0_read_147 ho (fun _ ho => ?_) (fun _ ho => ?_)
                    · refine j_const B eX0_read_165 ?_
                      refine j_lsub (lv' := [(0, .ref (ad 99)), (1, .ref (ad (103 + 10 * a1)))]) [0, 1] rfl ?_
                      exact hJ23 _ ho
                    · refine j_aload_n B eX0_read_150 0 rfl ?_
                      refine gfX_23 B eX0_read_151 ?_
                      refine j_aload_n B eX0_read_154 0 rfl ?_
                      refine gfX_22 B eX0_read_155 ?_
                      refine j_icmp_ge B eX0_read_158 ho (fun _ ho => ?_) (fun _ ho => ?_)
                      · refine j_const B eX0_read_165 ?_
                        refine j_lsub (lv' := [(0, .ref (ad 99)), (1, .ref (ad (103 + 10 * a1)))]) [0, 1] rfl ?_
                        exact hJ23 _ ho
                      · refine j_const B eX0_read_161 ?_
                        refine j_goto B eX0_read_162 ?_
                        refine j_lsub (lv' := [(0, .ref (ad 99)), (1, .ref (ad (103 + 10 * a1)))]) [0, 1] rfl ?_
                        exact hJ23 _ ho
              · refine j_if_ne B eX0_read_125 ho (fun _ ho => ?_) (fun _ ho => ?_)
                · refine j_const B eX0_read_132 ?_
                  exact hJ16 _ ho
                · refine j_const B eX0_read_128 ?_
                  refine j_goto B eX0_read_129 ?_
                  exact hJ16 _ ho
            · exact j_vretw B hr hQ eX0_read_113 ho
        · refine j_icmp_ne B eX0_read_62 ho (fun _ ho => ?_) (fun _ ho => ?_)
          · refine j_aload_n B eX0_read_83 1 rfl ?_
            refine j_aload_n B eX0_read_84 0 rfl ?_
            refine gsT101 B hX eX0_read_85 ?_
            refine j_const B eX0_read_88 ?_
            refine j_callViw (As := [.ref (sd 101), .int (1 : Int32)]) B hA (met_X0_word l D g ad sd w10 101 (1 : Int32)) (NXX_ok hX) pkX0_word q624 0 rfl rfl rfl rfl hRm ⟨Nat.le_of_ble_eq_true rfl, Nat.le_of_ble_eq_true rfl⟩ rfl rfl (Nat.le_of_ble_eq_true rfl) ⟨Nat.zero_le _, Nat.zero_le _⟩ eX0_read_89 ho (fun v35 w36 ho => ?_)
            refine pfRN (j := 1) B hX (by decide) (Or.inr (Or.inl rfl)) rfl rfl nq531 eX0_read_92 ho (fun w37 ho => ?_)
            exact hJ13 _ ho
          · refine j_aload_n B eX0_read_65 0 rfl ?_
            refine j_dup B eX0_read_66 rfl ?_
            refine gfX_23 B eX0_read_67 ?_
            refine j_const B eX0_read_70 ?_
            refine j_iadd B eX0_read_71 ?_
            refine pfX_23 B eX0_read_72 ho (fun w38 ho => ?_)
            refine j_aload_n B eX0_read_75 1 rfl ?_
            refine j_const B eX0_read_76 ?_
            refine pfRN (j := 1) B hX (by decide) (Or.inr (Or.inl rfl)) rfl rfl nq531 eX0_read_77 ho (fun w39 ho => ?_)
            refine j_goto B eX0_read_80 ?_
            exact hJ13 _ ho
      · exact j_vretw B hr hQ eX0_read_55 ho
    · refine j_if_eq B eX0_read_33 ho (fun _ ho => ?_) (fun _ ho => ?_)
      · refine j_ldcwS (k := 14) B hX.2.2.2.2.1 eX0_read_42 ?_
        exact hJ9 _ ho
      · refine j_ldcwS (k := 13) B hX.2.2.2.1 eX0_read_36 ?_
        refine j_goto B eX0_read_39 ?_
        exact hJ9 _ ho
  · refine j_icmp_ne B eX0_read_17 ho (fun _ ho => ?_) (fun _ ho => ?_)
    · refine j_const B eX0_read_24 ?_
      exact hJ5 _ ho
    · refine j_const B eX0_read_20 ?_
      refine j_goto B eX0_read_21 ?_
      exact hJ5 _ ho
