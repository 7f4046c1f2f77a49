set_option maxRecDepth 100000
theorem eX1_letter_0 : D1 cX1_letter 0 (.iload_n 0) 1 := ⟨by decide +kernel, rfl⟩
theorem eX1_letter_1 : D3 cX1_letter 1 (.invokestatic 254) 4 := ⟨by decide +kernel, rfl⟩
theorem eX1_letter_4 : D1 cX1_letter 4 (.lstore_n 2) 5 := ⟨by decide +kernel, rfl⟩
theorem eX1_letter_5 : D1 cX1_letter 5 (.lload_n 2) 6 := ⟨by decide +kernel, rfl⟩
theorem eX1_letter_6 : D2 cX1_letter 6 (.lstore 4) 8 := ⟨by decide +kernel, rfl⟩
theorem eX1_letter_8 : DC cX1_letter 8 (0) 9 := Or.inl ⟨0, ⟨by decide +kernel, rfl⟩, by decide⟩
theorem eX1_letter_9 : D2 cX1_letter 9 (.istore 6) 11 := ⟨by decide +kernel, rfl⟩
theorem eX1_letter_11 : D2 cX1_letter 11 (.lload 4) 13 := ⟨by decide +kernel, rfl⟩
theorem eX1_letter_13 : D1 cX1_letter 13 (.lconst 0) 14 := ⟨by decide +kernel, rfl⟩
theorem eX1_letter_14 : D1 cX1_letter 14 (.lcmp) 15 := ⟨by decide +kernel, rfl⟩
theorem eX1_letter_15 : DJ cX1_letter 15 (.ifCond .le) 30 18 := ⟨15, by decide +kernel, by decide, rfl⟩
theorem eX1_letter_18 : D2 cX1_letter 18 (.lload 4) 20 := ⟨by decide +kernel, rfl⟩
theorem eX1_letter_20 : DC cX1_letter 20 (5) 21 := Or.inl ⟨5, ⟨by decide +kernel, rfl⟩, by decide⟩
theorem eX1_letter_21 : D1 cX1_letter 21 (.lshr) 22 := ⟨by decide +kernel, rfl⟩
theorem eX1_letter_22 : D2 cX1_letter 22 (.lstore 4) 24 := ⟨by decide +kernel, rfl⟩
theorem eX1_letter_24 : D3 cX1_letter 24 (.iinc 6 1) 27 := ⟨by decide +kernel, rfl⟩
theorem eX1_letter_27 : DJ cX1_letter 27 .goto 11 30 := ⟨-16, by decide +kernel, by decide, rfl⟩
theorem eX1_letter_30 : D1 cX1_letter 30 (.iload_n 1) 31 := ⟨by decide +kernel, rfl⟩
theorem eX1_letter_31 : D2 cX1_letter 31 (.iload 6) 33 := ⟨by decide +kernel, rfl⟩
theorem eX1_letter_33 : DJ cX1_letter 33 (.if_icmp .lt) 38 36 := ⟨5, by decide +kernel, by decide, rfl⟩
theorem eX1_letter_36 : DC cX1_letter 36 (0) 37 := Or.inl ⟨0, ⟨by decide +kernel, rfl⟩, by decide⟩
theorem eX1_letter_37 : D1 cX1_letter 37 (.ireturn) 38 := ⟨by decide +kernel, rfl⟩
theorem eX1_letter_38 : D1 cX1_letter 38 (.lload_n 2) 39 := ⟨by decide +kernel, rfl⟩
theorem eX1_letter_39 : DC cX1_letter 39 (5) 40 := Or.inl ⟨5, ⟨by decide +kernel, rfl⟩, by decide⟩
theorem eX1_letter_40 : D2 cX1_letter 40 (.iload 6) 42 := ⟨by decide +kernel, rfl⟩
theorem eX1_letter_42 : DC cX1_letter 42 (1) 43 := Or.inl ⟨1, ⟨by decide +kernel, rfl⟩, by decide⟩
theorem eX1_letter_43 : D1 cX1_letter 43 (.isub) 44 := ⟨by decide +kernel, rfl⟩
theorem eX1_letter_44 : D1 cX1_letter 44 (.iload_n 1) 45 := ⟨by decide +kernel, rfl⟩
theorem eX1_letter_45 : D1 cX1_letter 45 (.isub) 46 := ⟨by decide +kernel, rfl⟩
theorem eX1_letter_46 : D1 cX1_letter 46 (.imul) 47 := ⟨by decide +kernel, rfl⟩
theorem eX1_letter_47 : D1 cX1_letter 47 (.lshr) 48 := ⟨by decide +kernel, rfl⟩
theorem eX1_letter_48 : D3 cX1_letter 48 (.ldc2_w 257) 51 := ⟨by decide +kernel, rfl⟩
theorem eX1_letter_51 : D1 cX1_letter 51 (.land) 52 := ⟨by decide +kernel, rfl⟩
theorem eX1_letter_52 : D1 cX1_letter 52 (.l2i) 53 := ⟨by decide +kernel, rfl⟩
theorem eX1_letter_53 : D2 cX1_letter 53 (.istore 7) 55 := ⟨by decide +kernel, rfl⟩
theorem eX1_letter_55 : D2 cX1_letter 55 (.iload 7) 57 := ⟨by decide +kernel, rfl⟩
theorem eX1_letter_57 : DC cX1_letter 57 (27) 59 := Or.inr (Or.inl ⟨27, ⟨by decide +kernel, rfl⟩, by decide⟩)
theorem eX1_letter_59 : DJ cX1_letter 59 (.if_icmp .ne) 67 62 := ⟨8, by decide +kernel, by decide, rfl⟩
theorem eX1_letter_62 : DC cX1_letter 62 (42) 64 := Or.inr (Or.inl ⟨42, ⟨by decide +kernel, rfl⟩, by decide⟩)
theorem eX1_letter_64 : DJ cX1_letter 64 .goto 74 67 := ⟨10, by decide +kernel, by decide, rfl⟩
theorem eX1_letter_67 : DC cX1_letter 67 (97) 69 := Or.inr (Or.inl ⟨97, ⟨by decide +kernel, rfl⟩, by decide⟩)
theorem eX1_letter_69 : D2 cX1_letter 69 (.iload 7) 71 := ⟨by decide +kernel, rfl⟩
theorem eX1_letter_71 : D1 cX1_letter 71 (.iadd) 72 := ⟨by decide +kernel, rfl⟩
theorem eX1_letter_72 : DC cX1_letter 72 (1) 73 := Or.inl ⟨1, ⟨by decide +kernel, rfl⟩, by decide⟩
theorem eX1_letter_73 : D1 cX1_letter 73 (.isub) 74 := ⟨by decide +kernel, rfl⟩
theorem eX1_letter_74 : D1 cX1_letter 74 (.ireturn) 75 := ⟨by decide +kernel, rfl⟩
theorem eX1_fits_0 : DC cX1_fits 0 (1) 1 := Or.inl ⟨1, ⟨by decide +kernel, rfl⟩, by decide⟩
theorem eX1_fits_1 : D1 cX1_fits 1 (.istore_n 3) 2 := ⟨by decide +kernel, rfl⟩
theorem eX1_fits_2 : D1 cX1_fits 2 (.iload_n 2) 3 := ⟨by decide +kernel, rfl⟩
theorem eX1_fits_3 : D2 cX1_fits 3 (.istore 4) 5 := ⟨by decide +kernel, rfl⟩
theorem eX1_fits_5 : D2 cX1_fits 5 (.iload 4) 7 := ⟨by decide +kernel, rfl⟩
theorem eX1_fits_7 : D1 cX1_fits 7 (.aload_n 0) 8 := ⟨by decide +kernel, rfl⟩
theorem eX1_fits_8 : D3 cX1_fits 8 (.getfield 251) 11 := ⟨by decide +kernel, rfl⟩
theorem eX1_fits_11 : DJ cX1_fits 11 (.if_icmp .ge) 48 14 := ⟨37, by decide +kernel, by decide, rfl⟩
theorem eX1_fits_14 : D1 cX1_fits 14 (.iload_n 3) 15 := ⟨by decide +kernel, rfl⟩
theorem eX1_fits_15 : DJ cX1_fits 15 (.ifCond .eq) 40 18 := ⟨25, by decide +kernel, by decide, rfl⟩
theorem eX1_fits_18 : D1 cX1_fits 18 (.iload_n 1) 19 := ⟨by decide +kernel, rfl⟩
theorem eX1_fits_19 : D2 cX1_fits 19 (.iload 4) 21 := ⟨by decide +kernel, rfl⟩
theorem eX1_fits_21 : D1 cX1_fits 21 (.iload_n 2) 22 := ⟨by decide +kernel, rfl⟩
theorem eX1_fits_22 : D1 cX1_fits 22 (.isub) 23 := ⟨by decide +kernel, rfl⟩
theorem eX1_fits_23 : D3 cX1_fits 23 (.invokestatic 268) 26 := ⟨by decide +kernel, rfl⟩
theorem eX1_fits_26 : D1 cX1_fits 26 (.aload_n 0) 27 := ⟨by decide +kernel, rfl⟩
theorem eX1_fits_27 : D3 cX1_fits 27 (.getfield 81) 30 := ⟨by decide +kernel, rfl⟩
theorem eX1_fits_30 : D2 cX1_fits 30 (.iload 4) 32 := ⟨by decide +kernel, rfl⟩
theorem eX1_fits_32 : D1 cX1_fits 32 (.iaload) 33 := ⟨by decide +kernel, rfl⟩
theorem eX1_fits_33 : DJ cX1_fits 33 (.if_icmp .ne) 40 36 := ⟨7, by decide +kernel, by decide, rfl⟩
theorem eX1_fits_36 : DC cX1_fits 36 (1) 37 := Or.inl ⟨1, ⟨by decide +kernel, rfl⟩, by decide⟩
theorem eX1_fits_37 : DJ cX1_fits 37 .goto 41 40 := ⟨4, by decide +kernel, by decide, rfl⟩
theorem eX1_fits_40 : DC cX1_fits 40 (0) 41 := Or.inl ⟨0, ⟨by decide +kernel, rfl⟩, by decide⟩
theorem eX1_fits_41 : D1 cX1_fits 41 (.istore_n 3) 42 := ⟨by decide +kernel, rfl⟩
theorem eX1_fits_42 : D3 cX1_fits 42 (.iinc 4 1) 45 := ⟨by decide +kernel, rfl⟩
theorem eX1_fits_45 : DJ cX1_fits 45 .goto 5 48 := ⟨-40, by decide +kernel, by decide, rfl⟩
theorem eX1_fits_48 : D1 cX1_fits 48 (.iload_n 3) 49 := ⟨by decide +kernel, rfl⟩
theorem eX1_fits_49 : D1 cX1_fits 49 (.ireturn) 50 := ⟨by decide +kernel, rfl⟩
theorem eX1_sign_0 : D1 cX1_sign 0 (.aload_n 0) 1 := ⟨by decide +kernel, rfl⟩
theorem eX1_sign_1 : D3 cX1_sign 1 (.getfield 251) 4 := ⟨by decide +kernel, rfl⟩
theorem eX1_sign_4 : D1 cX1_sign 4 (.aload_n 0) 5 := ⟨by decide +kernel, rfl⟩
theorem eX1_sign_5 : D3 cX1_sign 5 (.getfield 246) 8 := ⟨by decide +kernel, rfl⟩
theorem eX1_sign_8 : DJ cX1_sign 8 (.if_icmp .ge) 23 11 := ⟨15, by decide +kernel, by decide, rfl⟩
theorem eX1_sign_11 : D1 cX1_sign 11 (.aload_n 0) 12 := ⟨by decide +kernel, rfl⟩
theorem eX1_sign_12 : D3 cX1_sign 12 (.getfield 81) 15 := ⟨by decide +kernel, rfl⟩
theorem eX1_sign_15 : D1 cX1_sign 15 (.aload_n 0) 16 := ⟨by decide +kernel, rfl⟩
theorem eX1_sign_16 : D3 cX1_sign 16 (.getfield 251) 19 := ⟨by decide +kernel, rfl⟩
theorem eX1_sign_19 : D1 cX1_sign 19 (.iaload) 20 := ⟨by decide +kernel, rfl⟩
theorem eX1_sign_20 : DJ cX1_sign 20 .goto 24 23 := ⟨4, by decide +kernel, by decide, rfl⟩
theorem eX1_sign_23 : DC cX1_sign 23 (-1) 24 := Or.inl ⟨-1, ⟨by decide +kernel, rfl⟩, by decide⟩
theorem eX1_sign_24 : D1 cX1_sign 24 (.ireturn) 25 := ⟨by decide +kernel, rfl⟩
theorem eX1_word_0 : D1 cX1_word 0 (.aload_n 0) 1 := ⟨by decide +kernel, rfl⟩
theorem eX1_word_1 : D3 cX1_word 1 (.getfield 251) 4 := ⟨by decide +kernel, rfl⟩
theorem eX1_word_4 : D1 cX1_word 4 (.istore_n 3) 5 := ⟨by decide +kernel, rfl⟩
theorem eX1_word_5 : DC cX1_word 5 (0) 6 := Or.inl ⟨0, ⟨by decide +kernel, rfl⟩, by decide⟩
theorem eX1_word_6 : D2 cX1_word 6 (.istore 4) 8 := ⟨by decide +kernel, rfl⟩
theorem eX1_word_8 : DC cX1_word 8 (-1) 9 := Or.inl ⟨-1, ⟨by decide +kernel, rfl⟩, by decide⟩
theorem eX1_word_9 : D2 cX1_word 9 (.istore 5) 11 := ⟨by decide +kernel, rfl⟩
theorem eX1_word_11 : D1 cX1_word 11 (.iload_n 1) 12 := ⟨by decide +kernel, rfl⟩
theorem eX1_word_12 : D2 cX1_word 12 (.istore 6) 14 := ⟨by decide +kernel, rfl⟩
theorem eX1_word_14 : D2 cX1_word 14 (.iload 6) 16 := ⟨by decide +kernel, rfl⟩
theorem eX1_word_16 : D1 cX1_word 16 (.iload_n 2) 17 := ⟨by decide +kernel, rfl⟩
theorem eX1_word_17 : DJ cX1_word 17 (.if_icmp .gt) 81 20 := ⟨64, by decide +kernel, by decide, rfl⟩
theorem eX1_word_20 : D1 cX1_word 20 (.aload_n 0) 21 := ⟨by decide +kernel, rfl⟩
theorem eX1_word_21 : D2 cX1_word 21 (.iload 6) 23 := ⟨by decide +kernel, rfl⟩
theorem eX1_word_23 : D1 cX1_word 23 (.iload_n 3) 24 := ⟨by decide +kernel, rfl⟩
theorem eX1_word_24 : D3 cX1_word 24 (.invokevirtual 265) 27 := ⟨by decide +kernel, rfl⟩
theorem eX1_word_27 : DJ cX1_word 27 (.ifCond .ne) 33 30 := ⟨6, by decide +kernel, by decide, rfl⟩
theorem eX1_word_30 : DJ cX1_word 30 .goto 75 33 := ⟨45, by decide +kernel, by decide, rfl⟩
theorem eX1_word_33 : D2 cX1_word 33 (.iload 6) 35 := ⟨by decide +kernel, rfl⟩
theorem eX1_word_35 : D1 cX1_word 35 (.aload_n 0) 36 := ⟨by decide +kernel, rfl⟩
theorem eX1_word_36 : D3 cX1_word 36 (.getfield 251) 39 := ⟨by decide +kernel, rfl⟩
theorem eX1_word_39 : D1 cX1_word 39 (.iload_n 3) 40 := ⟨by decide +kernel, rfl⟩
theorem eX1_word_40 : D1 cX1_word 40 (.isub) 41 := ⟨by decide +kernel, rfl⟩
theorem eX1_word_41 : D3 cX1_word 41 (.invokestatic 268) 44 := ⟨by decide +kernel, rfl⟩
theorem eX1_word_44 : DJ cX1_word 44 (.ifCond .ne) 54 47 := ⟨10, by decide +kernel, by decide, rfl⟩
theorem eX1_word_47 : D2 cX1_word 47 (.iload 6) 49 := ⟨by decide +kernel, rfl⟩
theorem eX1_word_49 : D2 cX1_word 49 (.istore 5) 51 := ⟨by decide +kernel, rfl⟩
theorem eX1_word_51 : DJ cX1_word 51 .goto 75 54 := ⟨24, by decide +kernel, by decide, rfl⟩
theorem eX1_word_54 : D2 cX1_word 54 (.iload 6) 56 := ⟨by decide +kernel, rfl⟩
theorem eX1_word_56 : D1 cX1_word 56 (.aload_n 0) 57 := ⟨by decide +kernel, rfl⟩
theorem eX1_word_57 : D3 cX1_word 57 (.getfield 251) 60 := ⟨by decide +kernel, rfl⟩
theorem eX1_word_60 : D1 cX1_word 60 (.iload_n 3) 61 := ⟨by decide +kernel, rfl⟩
theorem eX1_word_61 : D1 cX1_word 61 (.isub) 62 := ⟨by decide +kernel, rfl⟩
theorem eX1_word_62 : D3 cX1_word 62 (.invokestatic 268) 65 := ⟨by decide +kernel, rfl⟩
theorem eX1_word_65 : D1 cX1_word 65 (.aload_n 0) 66 := ⟨by decide +kernel, rfl⟩
theorem eX1_word_66 : D3 cX1_word 66 (.invokevirtual 271) 69 := ⟨by decide +kernel, rfl⟩
theorem eX1_word_69 : DJ cX1_word 69 (.if_icmp .ne) 75 72 := ⟨6, by decide +kernel, by decide, rfl⟩
theorem eX1_word_72 : D3 cX1_word 72 (.iinc 4 1) 75 := ⟨by decide +kernel, rfl⟩
theorem eX1_word_75 : D3 cX1_word 75 (.iinc 6 1) 78 := ⟨by decide +kernel, rfl⟩
theorem eX1_word_78 : DJ cX1_word 78 .goto 14 81 := ⟨-64, by decide +kernel, by decide, rfl⟩
theorem eX1_word_81 : D2 cX1_word 81 (.iload 5) 83 := ⟨by decide +kernel, rfl⟩
theorem eX1_word_83 : DJ cX1_word 83 (.ifCond .lt) 89 86 := ⟨6, by decide +kernel, by decide, rfl⟩
theorem eX1_word_86 : D2 cX1_word 86 (.iload 5) 88 := ⟨by decide +kernel, rfl⟩
theorem eX1_word_88 : D1 cX1_word 88 (.ireturn) 89 := ⟨by decide +kernel, rfl⟩
theorem eX1_word_89 : D2 cX1_word 89 (.iload 4) 91 := ⟨by decide +kernel, rfl⟩
theorem eX1_word_91 : DJ cX1_word 91 (.ifCond .ne) 96 94 := ⟨5, by decide +kernel, by decide, rfl⟩
theorem eX1_word_94 : DC cX1_word 94 (-1) 95 := Or.inl ⟨-1, ⟨by decide +kernel, rfl⟩, by decide⟩
theorem eX1_word_95 : D1 cX1_word 95 (.ireturn) 96 := ⟨by decide +kernel, rfl⟩
theorem eX1_word_96 : D1 cX1_word 96 (.aload_n 0) 97 := ⟨by decide +kernel, rfl⟩
theorem eX1_word_97 : D1 cX1_word 97 (.dup) 98 := ⟨by decide +kernel, rfl⟩
theorem eX1_word_98 : D3 cX1_word 98 (.getfield 251) 101 := ⟨by decide +kernel, rfl⟩
theorem eX1_word_101 : DC cX1_word 101 (1) 102 := Or.inl ⟨1, ⟨by decide +kernel, rfl⟩, by decide⟩
theorem eX1_word_102 : D1 cX1_word 102 (.iadd) 103 := ⟨by decide +kernel, rfl⟩
theorem eX1_word_103 : D3 cX1_word 103 (.putfield 251) 106 := ⟨by decide +kernel, rfl⟩
theorem eX1_word_106 : DJ cX1_word 106 .goto 5 109 := ⟨-101, by decide +kernel, by decide, rfl⟩
theorem eX1_takes_0 : D1 cX1_takes 0 (.aload_n 0) 1 := ⟨by decide +kernel, rfl⟩
theorem eX1_takes_1 : D3 cX1_takes 1 (.invokevirtual 271) 4 := ⟨by decide +kernel, rfl⟩
theorem eX1_takes_4 : D1 cX1_takes 4 (.iload_n 1) 5 := ⟨by decide +kernel, rfl⟩
theorem eX1_takes_5 : DJ cX1_takes 5 (.if_icmp .eq) 10 8 := ⟨5, by decide +kernel, by decide, rfl⟩
theorem eX1_takes_8 : DC cX1_takes 8 (0) 9 := Or.inl ⟨0, ⟨by decide +kernel, rfl⟩, by decide⟩
theorem eX1_takes_9 : D1 cX1_takes 9 (.ireturn) 10 := ⟨by decide +kernel, rfl⟩
theorem eX1_takes_10 : D1 cX1_takes 10 (.aload_n 0) 11 := ⟨by decide +kernel, rfl⟩
theorem eX1_takes_11 : D1 cX1_takes 11 (.dup) 12 := ⟨by decide +kernel, rfl⟩
theorem eX1_takes_12 : D3 cX1_takes 12 (.getfield 251) 15 := ⟨by decide +kernel, rfl⟩
theorem eX1_takes_15 : DC cX1_takes 15 (1) 16 := Or.inl ⟨1, ⟨by decide +kernel, rfl⟩, by decide⟩
theorem eX1_takes_16 : D1 cX1_takes 16 (.iadd) 17 := ⟨by decide +kernel, rfl⟩
theorem eX1_takes_17 : D3 cX1_takes 17 (.putfield 251) 20 := ⟨by decide +kernel, rfl⟩
theorem eX1_takes_20 : DC cX1_takes 20 (1) 21 := Or.inl ⟨1, ⟨by decide +kernel, rfl⟩, by decide⟩
theorem eX1_takes_21 : D1 cX1_takes 21 (.ireturn) 22 := ⟨by decide +kernel, rfl⟩
theorem eX1_isDigit_0 : D1 cX1_isDigit 0 (.iload_n 0) 1 := ⟨by decide +kernel, rfl⟩
theorem eX1_isDigit_1 : DC cX1_isDigit 1 (48) 3 := Or.inr (Or.inl ⟨48, ⟨by decide +kernel, rfl⟩, by decide⟩)
theorem eX1_isDigit_3 : DJ cX1_isDigit 3 (.if_icmp .lt) 16 6 := ⟨13, by decide +kernel, by decide, rfl⟩
theorem eX1_isDigit_6 : D1 cX1_isDigit 6 (.iload_n 0) 7 := ⟨by decide +kernel, rfl⟩
theorem eX1_isDigit_7 : DC cX1_isDigit 7 (57) 9 := Or.inr (Or.inl ⟨57, ⟨by decide +kernel, rfl⟩, by decide⟩)
theorem eX1_isDigit_9 : DJ cX1_isDigit 9 (.if_icmp .gt) 16 12 := ⟨7, by decide +kernel, by decide, rfl⟩
theorem eX1_isDigit_12 : DC cX1_isDigit 12 (1) 13 := Or.inl ⟨1, ⟨by decide +kernel, rfl⟩, by decide⟩
theorem eX1_isDigit_13 : DJ cX1_isDigit 13 .goto 17 16 := ⟨4, by decide +kernel, by decide, rfl⟩
theorem eX1_isDigit_16 : DC cX1_isDigit 16 (0) 17 := Or.inl ⟨0, ⟨by decide +kernel, rfl⟩, by decide⟩
theorem eX1_isDigit_17 : D1 cX1_isDigit 17 (.ireturn) 18 := ⟨by decide +kernel, rfl⟩
theorem eX1_test_0 : D1 cX1_test 0 (.aload_n 0) 1 := ⟨by decide +kernel, rfl⟩
theorem eX1_test_1 : DC cX1_test 1 (33) 3 := Or.inr (Or.inl ⟨33, ⟨by decide +kernel, rfl⟩, by decide⟩)
theorem eX1_test_3 : D3 cX1_test 3 (.invokevirtual 275) 6 := ⟨by decide +kernel, rfl⟩
theorem eX1_test_6 : D1 cX1_test 6 (.istore_n 2) 7 := ⟨by decide +kernel, rfl⟩
theorem eX1_test_7 : D1 cX1_test 7 (.aload_n 0) 8 := ⟨by decide +kernel, rfl⟩
theorem eX1_test_8 : DC cX1_test 8 (8) 10 := Or.inr (Or.inl ⟨8, ⟨by decide +kernel, rfl⟩, by decide⟩)
theorem eX1_test_10 : DC cX1_test 10 (14) 12 := Or.inr (Or.inl ⟨14, ⟨by decide +kernel, rfl⟩, by decide⟩)
theorem eX1_test_12 : D3 cX1_test 12 (.invokevirtual 278) 15 := ⟨by decide +kernel, rfl⟩
theorem eX1_test_15 : D1 cX1_test 15 (.istore_n 3) 16 := ⟨by decide +kernel, rfl⟩
theorem eX1_test_16 : D1 cX1_test 16 (.iload_n 3) 17 := ⟨by decide +kernel, rfl⟩
theorem eX1_test_17 : DJ cX1_test 17 (.ifCond .ge) 22 20 := ⟨5, by decide +kernel, by decide, rfl⟩
theorem eX1_test_20 : DC cX1_test 20 (0) 21 := Or.inl ⟨0, ⟨by decide +kernel, rfl⟩, by decide⟩
theorem eX1_test_21 : D1 cX1_test 21 (.ireturn) 22 := ⟨by decide +kernel, rfl⟩
theorem eX1_test_22 : D1 cX1_test 22 (.aload_n 0) 23 := ⟨by decide +kernel, rfl⟩
theorem eX1_test_23 : D3 cX1_test 23 (.invokevirtual 271) 26 := ⟨by decide +kernel, rfl⟩
theorem eX1_test_26 : D2 cX1_test 26 (.istore 4) 28 := ⟨by decide +kernel, rfl⟩
theorem eX1_test_28 : D2 cX1_test 28 (.iload 4) 30 := ⟨by decide +kernel, rfl⟩
theorem eX1_test_30 : DC cX1_test 30 (61) 32 := Or.inr (Or.inl ⟨61, ⟨by decide +kernel, rfl⟩, by decide⟩)
theorem eX1_test_32 : DJ cX1_test 32 (.if_icmp .eq) 51 35 := ⟨19, by decide +kernel, by decide, rfl⟩
theorem eX1_test_35 : D2 cX1_test 35 (.iload 4) 37 := ⟨by decide +kernel, rfl⟩
theorem eX1_test_37 : DC cX1_test 37 (60) 39 := Or.inr (Or.inl ⟨60, ⟨by decide +kernel, rfl⟩, by decide⟩)
theorem eX1_test_39 : DJ cX1_test 39 (.if_icmp .eq) 51 42 := ⟨12, by decide +kernel, by decide, rfl⟩
theorem eX1_test_42 : D2 cX1_test 42 (.iload 4) 44 := ⟨by decide +kernel, rfl⟩
theorem eX1_test_44 : DC cX1_test 44 (62) 46 := Or.inr (Or.inl ⟨62, ⟨by decide +kernel, rfl⟩, by decide⟩)
theorem eX1_test_46 : DJ cX1_test 46 (.if_icmp .eq) 51 49 := ⟨5, by decide +kernel, by decide, rfl⟩
theorem eX1_test_49 : DC cX1_test 49 (0) 50 := Or.inl ⟨0, ⟨by decide +kernel, rfl⟩, by decide⟩
theorem eX1_test_50 : D1 cX1_test 50 (.ireturn) 51 := ⟨by decide +kernel, rfl⟩
theorem eX1_test_51 : D1 cX1_test 51 (.aload_n 0) 52 := ⟨by decide +kernel, rfl⟩
theorem eX1_test_52 : D1 cX1_test 52 (.dup) 53 := ⟨by decide +kernel, rfl⟩
theorem eX1_test_53 : D3 cX1_test 53 (.getfield 251) 56 := ⟨by decide +kernel, rfl⟩
theorem eX1_test_56 : DC cX1_test 56 (1) 57 := Or.inl ⟨1, ⟨by decide +kernel, rfl⟩, by decide⟩
theorem eX1_test_57 : D1 cX1_test 57 (.iadd) 58 := ⟨by decide +kernel, rfl⟩
theorem eX1_test_58 : D3 cX1_test 58 (.putfield 251) 61 := ⟨by decide +kernel, rfl⟩
theorem eX1_test_61 : D1 cX1_test 61 (.aload_n 0) 62 := ⟨by decide +kernel, rfl⟩
theorem eX1_test_62 : D3 cX1_test 62 (.invokevirtual 271) 65 := ⟨by decide +kernel, rfl⟩
theorem eX1_test_65 : D3 cX1_test 65 (.invokestatic 281) 68 := ⟨by decide +kernel, rfl⟩
theorem eX1_test_68 : DJ cX1_test 68 (.ifCond .ne) 73 71 := ⟨5, by decide +kernel, by decide, rfl⟩
theorem eX1_test_71 : DC cX1_test 71 (0) 72 := Or.inl ⟨0, ⟨by decide +kernel, rfl⟩, by decide⟩
theorem eX1_test_72 : D1 cX1_test 72 (.ireturn) 73 := ⟨by decide +kernel, rfl⟩
theorem eX1_test_73 : DC cX1_test 73 (0) 74 := Or.inl ⟨0, ⟨by decide +kernel, rfl⟩, by decide⟩
theorem eX1_test_74 : D2 cX1_test 74 (.istore 5) 76 := ⟨by decide +kernel, rfl⟩
theorem eX1_test_76 : DC cX1_test 76 (0) 77 := Or.inl ⟨0, ⟨by decide +kernel, rfl⟩, by decide⟩
theorem eX1_test_77 : D2 cX1_test 77 (.istore 6) 79 := ⟨by decide +kernel, rfl⟩
theorem eX1_test_79 : D2 cX1_test 79 (.iload 6) 81 := ⟨by decide +kernel, rfl⟩
theorem eX1_test_81 : DC cX1_test 81 (3) 82 := Or.inl ⟨3, ⟨by decide +kernel, rfl⟩, by decide⟩
theorem eX1_test_82 : DJ cX1_test 82 (.if_icmp .ge) 126 85 := ⟨44, by decide +kernel, by decide, rfl⟩
theorem eX1_test_85 : D1 cX1_test 85 (.aload_n 0) 86 := ⟨by decide +kernel, rfl⟩
theorem eX1_test_86 : D3 cX1_test 86 (.invokevirtual 271) 89 := ⟨by decide +kernel, rfl⟩
theorem eX1_test_89 : D3 cX1_test 89 (.invokestatic 281) 92 := ⟨by decide +kernel, rfl⟩
theorem eX1_test_92 : DJ cX1_test 92 (.ifCond .eq) 126 95 := ⟨34, by decide +kernel, by decide, rfl⟩
theorem eX1_test_95 : DC cX1_test 95 (10) 97 := Or.inr (Or.inl ⟨10, ⟨by decide +kernel, rfl⟩, by decide⟩)
theorem eX1_test_97 : D2 cX1_test 97 (.iload 5) 99 := ⟨by decide +kernel, rfl⟩
theorem eX1_test_99 : D1 cX1_test 99 (.imul) 100 := ⟨by decide +kernel, rfl⟩
theorem eX1_test_100 : D1 cX1_test 100 (.aload_n 0) 101 := ⟨by decide +kernel, rfl⟩
theorem eX1_test_101 : D3 cX1_test 101 (.invokevirtual 271) 104 := ⟨by decide +kernel, rfl⟩
theorem eX1_test_104 : D1 cX1_test 104 (.iadd) 105 := ⟨by decide +kernel, rfl⟩
theorem eX1_test_105 : DC cX1_test 105 (48) 107 := Or.inr (Or.inl ⟨48, ⟨by decide +kernel, rfl⟩, by decide⟩)
theorem eX1_test_107 : D1 cX1_test 107 (.isub) 108 := ⟨by decide +kernel, rfl⟩
theorem eX1_test_108 : D2 cX1_test 108 (.istore 5) 110 := ⟨by decide +kernel, rfl⟩
theorem eX1_test_110 : D1 cX1_test 110 (.aload_n 0) 111 := ⟨by decide +kernel, rfl⟩
theorem eX1_test_111 : D1 cX1_test 111 (.dup) 112 := ⟨by decide +kernel, rfl⟩
theorem eX1_test_112 : D3 cX1_test 112 (.getfield 251) 115 := ⟨by decide +kernel, rfl⟩
theorem eX1_test_115 : DC cX1_test 115 (1) 116 := Or.inl ⟨1, ⟨by decide +kernel, rfl⟩, by decide⟩
theorem eX1_test_116 : D1 cX1_test 116 (.iadd) 117 := ⟨by decide +kernel, rfl⟩
theorem eX1_test_117 : D3 cX1_test 117 (.putfield 251) 120 := ⟨by decide +kernel, rfl⟩
theorem eX1_test_120 : D3 cX1_test 120 (.iinc 6 1) 123 := ⟨by decide +kernel, rfl⟩
theorem eX1_test_123 : DJ cX1_test 123 .goto 79 126 := ⟨-44, by decide +kernel, by decide, rfl⟩
theorem eX1_test_126 : D1 cX1_test 126 (.aload_n 0) 127 := ⟨by decide +kernel, rfl⟩
theorem eX1_test_127 : D3 cX1_test 127 (.getfield 93) 130 := ⟨by decide +kernel, rfl⟩
theorem eX1_test_130 : D1 cX1_test 130 (.iload_n 1) 131 := ⟨by decide +kernel, rfl⟩
theorem eX1_test_131 : D1 cX1_test 131 (.iload_n 2) 132 := ⟨by decide +kernel, rfl⟩
theorem eX1_test_132 : DJ cX1_test 132 (.ifCond .eq) 139 135 := ⟨7, by decide +kernel, by decide, rfl⟩
theorem eX1_test_135 : DC cX1_test 135 (1) 136 := Or.inl ⟨1, ⟨by decide +kernel, rfl⟩, by decide⟩
theorem eX1_test_136 : DJ cX1_test 136 .goto 140 139 := ⟨4, by decide +kernel, by decide, rfl⟩
theorem eX1_test_139 : DC cX1_test 139 (0) 140 := Or.inl ⟨0, ⟨by decide +kernel, rfl⟩, by decide⟩
theorem eX1_test_140 : D1 cX1_test 140 (.iastore) 141 := ⟨by decide +kernel, rfl⟩
theorem eX1_test_141 : D1 cX1_test 141 (.aload_n 0) 142 := ⟨by decide +kernel, rfl⟩
theorem eX1_test_142 : D3 cX1_test 142 (.getfield 93) 145 := ⟨by decide +kernel, rfl⟩
theorem eX1_test_145 : D1 cX1_test 145 (.iload_n 1) 146 := ⟨by decide +kernel, rfl⟩
theorem eX1_test_146 : DC cX1_test 146 (1) 147 := Or.inl ⟨1, ⟨by decide +kernel, rfl⟩, by decide⟩
theorem eX1_test_147 : D1 cX1_test 147 (.iadd) 148 := ⟨by decide +kernel, rfl⟩
theorem eX1_test_148 : D1 cX1_test 148 (.iload_n 3) 149 := ⟨by decide +kernel, rfl⟩
theorem eX1_test_149 : DC cX1_test 149 (8) 151 := Or.inr (Or.inl ⟨8, ⟨by decide +kernel, rfl⟩, by decide⟩)
theorem eX1_test_151 : D1 cX1_test 151 (.isub) 152 := ⟨by decide +kernel, rfl⟩
theorem eX1_test_152 : D1 cX1_test 152 (.iastore) 153 := ⟨by decide +kernel, rfl⟩
theorem eX1_test_153 : D1 cX1_test 153 (.aload_n 0) 154 := ⟨by decide +kernel, rfl⟩
theorem eX1_test_154 : D3 cX1_test 154 (.getfield 93) 157 := ⟨by decide +kernel, rfl⟩
theorem eX1_test_157 : D1 cX1_test 157 (.iload_n 1) 158 := ⟨by decide +kernel, rfl⟩
theorem eX1_test_158 : DC cX1_test 158 (2) 159 := Or.inl ⟨2, ⟨by decide +kernel, rfl⟩, by decide⟩
theorem eX1_test_159 : D1 cX1_test 159 (.iadd) 160 := ⟨by decide +kernel, rfl⟩
theorem eX1_test_160 : D2 cX1_test 160 (.iload 4) 162 := ⟨by decide +kernel, rfl⟩
theorem eX1_test_162 : D1 cX1_test 162 (.iastore) 163 := ⟨by decide +kernel, rfl⟩
theorem eX1_test_163 : D1 cX1_test 163 (.aload_n 0) 164 := ⟨by decide +kernel, rfl⟩
theorem eX1_test_164 : D3 cX1_test 164 (.getfield 93) 167 := ⟨by decide +kernel, rfl⟩
theorem eX1_test_167 : D1 cX1_test 167 (.iload_n 1) 168 := ⟨by decide +kernel, rfl⟩
theorem eX1_test_168 : DC cX1_test 168 (3) 169 := Or.inl ⟨3, ⟨by decide +kernel, rfl⟩, by decide⟩
theorem eX1_test_169 : D1 cX1_test 169 (.iadd) 170 := ⟨by decide +kernel, rfl⟩
theorem eX1_test_170 : D2 cX1_test 170 (.iload 5) 172 := ⟨by decide +kernel, rfl⟩
theorem eX1_test_172 : D1 cX1_test 172 (.iastore) 173 := ⟨by decide +kernel, rfl⟩
theorem eX1_test_173 : DC cX1_test 173 (1) 174 := Or.inl ⟨1, ⟨by decide +kernel, rfl⟩, by decide⟩
theorem eX1_test_174 : D1 cX1_test 174 (.ireturn) 175 := ⟨by decide +kernel, rfl⟩
theorem eX1_parses_0 : D1 cX1_parses 0 (.aload_n 0) 1 := ⟨by decide +kernel, rfl⟩
theorem eX1_parses_1 : DC cX1_parses 1 (0) 2 := Or.inl ⟨0, ⟨by decide +kernel, rfl⟩, by decide⟩
theorem eX1_parses_2 : D3 cX1_parses 2 (.putfield 251) 5 := ⟨by decide +kernel, rfl⟩
theorem eX1_parses_5 : D1 cX1_parses 5 (.aload_n 0) 6 := ⟨by decide +kernel, rfl⟩
theorem eX1_parses_6 : DC cX1_parses 6 (6) 8 := Or.inr (Or.inl ⟨6, ⟨by decide +kernel, rfl⟩, by decide⟩)
theorem eX1_parses_8 : DC cX1_parses 8 (7) 10 := Or.inr (Or.inl ⟨7, ⟨by decide +kernel, rfl⟩, by decide⟩)
theorem eX1_parses_10 : D3 cX1_parses 10 (.invokevirtual 278) 13 := ⟨by decide +kernel, rfl⟩
theorem eX1_parses_13 : D1 cX1_parses 13 (.istore_n 1) 14 := ⟨by decide +kernel, rfl⟩
theorem eX1_parses_14 : D1 cX1_parses 14 (.iload_n 1) 15 := ⟨by decide +kernel, rfl⟩
theorem eX1_parses_15 : DJ cX1_parses 15 (.ifCond .lt) 27 18 := ⟨12, by decide +kernel, by decide, rfl⟩
theorem eX1_parses_18 : D1 cX1_parses 18 (.aload_n 0) 19 := ⟨by decide +kernel, rfl⟩
theorem eX1_parses_19 : DC cX1_parses 19 (32) 21 := Or.inr (Or.inl ⟨32, ⟨by decide +kernel, rfl⟩, by decide⟩)
theorem eX1_parses_21 : D3 cX1_parses 21 (.invokevirtual 275) 24 := ⟨by decide +kernel, rfl⟩
theorem eX1_parses_24 : DJ cX1_parses 24 (.ifCond .ne) 29 27 := ⟨5, by decide +kernel, by decide, rfl⟩
theorem eX1_parses_27 : DC cX1_parses 27 (0) 28 := Or.inl ⟨0, ⟨by decide +kernel, rfl⟩, by decide⟩
theorem eX1_parses_28 : D1 cX1_parses 28 (.ireturn) 29 := ⟨by decide +kernel, rfl⟩
theorem eX1_parses_29 : D1 cX1_parses 29 (.aload_n 0) 30 := ⟨by decide +kernel, rfl⟩
theorem eX1_parses_30 : DC cX1_parses 30 (0) 31 := Or.inl ⟨0, ⟨by decide +kernel, rfl⟩, by decide⟩
theorem eX1_parses_31 : DC cX1_parses 31 (5) 32 := Or.inl ⟨5, ⟨by decide +kernel, rfl⟩, by decide⟩
theorem eX1_parses_32 : D3 cX1_parses 32 (.invokevirtual 278) 35 := ⟨by decide +kernel, rfl⟩
theorem eX1_parses_35 : D1 cX1_parses 35 (.istore_n 2) 36 := ⟨by decide +kernel, rfl⟩
theorem eX1_parses_36 : D1 cX1_parses 36 (.iload_n 2) 37 := ⟨by decide +kernel, rfl⟩
theorem eX1_parses_37 : DJ cX1_parses 37 (.ifCond .ge) 42 40 := ⟨5, by decide +kernel, by decide, rfl⟩
theorem eX1_parses_40 : DC cX1_parses 40 (0) 41 := Or.inl ⟨0, ⟨by decide +kernel, rfl⟩, by decide⟩
theorem eX1_parses_41 : D1 cX1_parses 41 (.ireturn) 42 := ⟨by decide +kernel, rfl⟩
theorem eX1_parses_42 : D1 cX1_parses 42 (.aload_n 0) 43 := ⟨by decide +kernel, rfl⟩
theorem eX1_parses_43 : D3 cX1_parses 43 (.getfield 84) 46 := ⟨by decide +kernel, rfl⟩
theorem eX1_parses_46 : D1 cX1_parses 46 (.aload_n 0) 47 := ⟨by decide +kernel, rfl⟩
theorem eX1_parses_47 : D3 cX1_parses 47 (.getfield 284) 50 := ⟨by decide +kernel, rfl⟩
theorem eX1_parses_50 : D1 cX1_parses 50 (.iload_n 1) 51 := ⟨by decide +kernel, rfl⟩
theorem eX1_parses_51 : DC cX1_parses 51 (7) 53 := Or.inr (Or.inl ⟨7, ⟨by decide +kernel, rfl⟩, by decide⟩)
theorem eX1_parses_53 : DJ cX1_parses 53 (.if_icmp .ne) 60 56 := ⟨7, by decide +kernel, by decide, rfl⟩
theorem eX1_parses_56 : DC cX1_parses 56 (1) 57 := Or.inl ⟨1, ⟨by decide +kernel, rfl⟩, by decide⟩
theorem eX1_parses_57 : DJ cX1_parses 57 .goto 61 60 := ⟨4, by decide +kernel, by decide, rfl⟩
theorem eX1_parses_60 : DC cX1_parses 60 (0) 61 := Or.inl ⟨0, ⟨by decide +kernel, rfl⟩, by decide⟩
theorem eX1_parses_61 : D1 cX1_parses 61 (.bastore) 62 := ⟨by decide +kernel, rfl⟩
theorem eX1_parses_62 : D1 cX1_parses 62 (.aload_n 0) 63 := ⟨by decide +kernel, rfl⟩
theorem eX1_parses_63 : D3 cX1_parses 63 (.getfield 87) 66 := ⟨by decide +kernel, rfl⟩
theorem eX1_parses_66 : D1 cX1_parses 66 (.aload_n 0) 67 := ⟨by decide +kernel, rfl⟩
theorem eX1_parses_67 : D3 cX1_parses 67 (.getfield 284) 70 := ⟨by decide +kernel, rfl⟩
theorem eX1_parses_70 : D1 cX1_parses 70 (.iload_n 2) 71 := ⟨by decide +kernel, rfl⟩
theorem eX1_parses_71 : D1 cX1_parses 71 (.iastore) 72 := ⟨by decide +kernel, rfl⟩
theorem eX1_parses_72 : D1 cX1_parses 72 (.aload_n 0) 73 := ⟨by decide +kernel, rfl⟩
theorem eX1_parses_73 : D3 cX1_parses 73 (.getfield 90) 76 := ⟨by decide +kernel, rfl⟩
theorem eX1_parses_76 : D1 cX1_parses 76 (.aload_n 0) 77 := ⟨by decide +kernel, rfl⟩
theorem eX1_parses_77 : D3 cX1_parses 77 (.getfield 284) 80 := ⟨by decide +kernel, rfl⟩
theorem eX1_parses_80 : DC cX1_parses 80 (0) 81 := Or.inl ⟨0, ⟨by decide +kernel, rfl⟩, by decide⟩
theorem eX1_parses_81 : D1 cX1_parses 81 (.iastore) 82 := ⟨by decide +kernel, rfl⟩
theorem eX1_parses_82 : D1 cX1_parses 82 (.aload_n 0) 83 := ⟨by decide +kernel, rfl⟩
theorem eX1_parses_83 : D3 cX1_parses 83 (.getfield 251) 86 := ⟨by decide +kernel, rfl⟩
theorem eX1_parses_86 : D1 cX1_parses 86 (.aload_n 0) 87 := ⟨by decide +kernel, rfl⟩
theorem eX1_parses_87 : D3 cX1_parses 87 (.getfield 246) 90 := ⟨by decide +kernel, rfl⟩
theorem eX1_parses_90 : DJ cX1_parses 90 (.if_icmp .ne) 95 93 := ⟨5, by decide +kernel, by decide, rfl⟩
theorem eX1_parses_93 : DC cX1_parses 93 (1) 94 := Or.inl ⟨1, ⟨by decide +kernel, rfl⟩, by decide⟩
theorem eX1_parses_94 : D1 cX1_parses 94 (.ireturn) 95 := ⟨by decide +kernel, rfl⟩
theorem eX1_parses_95 : D1 cX1_parses 95 (.aload_n 0) 96 := ⟨by decide +kernel, rfl⟩
theorem eX1_parses_96 : DC cX1_parses 96 (32) 98 := Or.inr (Or.inl ⟨32, ⟨by decide +kernel, rfl⟩, by decide⟩)
theorem eX1_parses_98 : D3 cX1_parses 98 (.invokevirtual 275) 101 := ⟨by decide +kernel, rfl⟩
theorem eX1_parses_101 : DJ cX1_parses 101 (.ifCond .eq) 124 104 := ⟨23, by decide +kernel, by decide, rfl⟩
theorem eX1_parses_104 : D1 cX1_parses 104 (.aload_n 0) 105 := ⟨by decide +kernel, rfl⟩
theorem eX1_parses_105 : DC cX1_parses 105 (15) 107 := Or.inr (Or.inl ⟨15, ⟨by decide +kernel, rfl⟩, by decide⟩)
theorem eX1_parses_107 : DC cX1_parses 107 (15) 109 := Or.inr (Or.inl ⟨15, ⟨by decide +kernel, rfl⟩, by decide⟩)
theorem eX1_parses_109 : D3 cX1_parses 109 (.invokevirtual 278) 112 := ⟨by decide +kernel, rfl⟩
theorem eX1_parses_112 : DJ cX1_parses 112 (.ifCond .lt) 124 115 := ⟨12, by decide +kernel, by decide, rfl⟩
theorem eX1_parses_115 : D1 cX1_parses 115 (.aload_n 0) 116 := ⟨by decide +kernel, rfl⟩
theorem eX1_parses_116 : DC cX1_parses 116 (32) 118 := Or.inr (Or.inl ⟨32, ⟨by decide +kernel, rfl⟩, by decide⟩)
theorem eX1_parses_118 : D3 cX1_parses 118 (.invokevirtual 275) 121 := ⟨by decide +kernel, rfl⟩
theorem eX1_parses_121 : DJ cX1_parses 121 (.ifCond .ne) 126 124 := ⟨5, by decide +kernel, by decide, rfl⟩
theorem eX1_parses_124 : DC cX1_parses 124 (0) 125 := Or.inl ⟨0, ⟨by decide +kernel, rfl⟩, by decide⟩
theorem eX1_parses_125 : D1 cX1_parses 125 (.ireturn) 126 := ⟨by decide +kernel, rfl⟩
theorem eX1_parses_126 : D1 cX1_parses 126 (.aload_n 0) 127 := ⟨by decide +kernel, rfl⟩
theorem eX1_parses_127 : DC cX1_parses 127 (12) 129 := Or.inr (Or.inl ⟨12, ⟨by decide +kernel, rfl⟩, by decide⟩)
theorem eX1_parses_129 : D1 cX1_parses 129 (.aload_n 0) 130 := ⟨by decide +kernel, rfl⟩
theorem eX1_parses_130 : D3 cX1_parses 130 (.getfield 284) 133 := ⟨by decide +kernel, rfl⟩
theorem eX1_parses_133 : D1 cX1_parses 133 (.imul) 134 := ⟨by decide +kernel, rfl⟩
theorem eX1_parses_134 : DC cX1_parses 134 (4) 135 := Or.inl ⟨4, ⟨by decide +kernel, rfl⟩, by decide⟩
theorem eX1_parses_135 : D1 cX1_parses 135 (.aload_n 0) 136 := ⟨by decide +kernel, rfl⟩
theorem eX1_parses_136 : D3 cX1_parses 136 (.getfield 90) 139 := ⟨by decide +kernel, rfl⟩
theorem eX1_parses_139 : D1 cX1_parses 139 (.aload_n 0) 140 := ⟨by decide +kernel, rfl⟩
theorem eX1_parses_140 : D3 cX1_parses 140 (.getfield 284) 143 := ⟨by decide +kernel, rfl⟩
theorem eX1_parses_143 : D1 cX1_parses 143 (.iaload) 144 := ⟨by decide +kernel, rfl⟩
theorem eX1_parses_144 : D1 cX1_parses 144 (.imul) 145 := ⟨by decide +kernel, rfl⟩
theorem eX1_parses_145 : D1 cX1_parses 145 (.iadd) 146 := ⟨by decide +kernel, rfl⟩
theorem eX1_parses_146 : D3 cX1_parses 146 (.invokevirtual 287) 149 := ⟨by decide +kernel, rfl⟩
theorem eX1_parses_149 : DJ cX1_parses 149 (.ifCond .ne) 154 152 := ⟨5, by decide +kernel, by decide, rfl⟩
theorem eX1_parses_152 : DC cX1_parses 152 (0) 153 := Or.inl ⟨0, ⟨by decide +kernel, rfl⟩, by decide⟩
theorem eX1_parses_153 : D1 cX1_parses 153 (.ireturn) 154 := ⟨by decide +kernel, rfl⟩
theorem eX1_parses_154 : D1 cX1_parses 154 (.aload_n 0) 155 := ⟨by decide +kernel, rfl⟩
theorem eX1_parses_155 : D3 cX1_parses 155 (.getfield 90) 158 := ⟨by decide +kernel, rfl⟩
theorem eX1_parses_158 : D1 cX1_parses 158 (.aload_n 0) 159 := ⟨by decide +kernel, rfl⟩
theorem eX1_parses_159 : D3 cX1_parses 159 (.getfield 284) 162 := ⟨by decide +kernel, rfl⟩
theorem eX1_parses_162 : D1 cX1_parses 162 (.dup2) 163 := ⟨by decide +kernel, rfl⟩
theorem eX1_parses_163 : D1 cX1_parses 163 (.iaload) 164 := ⟨by decide +kernel, rfl⟩
theorem eX1_parses_164 : DC cX1_parses 164 (1) 165 := Or.inl ⟨1, ⟨by decide +kernel, rfl⟩, by decide⟩
theorem eX1_parses_165 : D1 cX1_parses 165 (.iadd) 166 := ⟨by decide +kernel, rfl⟩
theorem eX1_parses_166 : D1 cX1_parses 166 (.iastore) 167 := ⟨by decide +kernel, rfl⟩
theorem eX1_parses_167 : D1 cX1_parses 167 (.aload_n 0) 168 := ⟨by decide +kernel, rfl⟩
theorem eX1_parses_168 : D3 cX1_parses 168 (.getfield 251) 171 := ⟨by decide +kernel, rfl⟩
theorem eX1_parses_171 : D1 cX1_parses 171 (.aload_n 0) 172 := ⟨by decide +kernel, rfl⟩
theorem eX1_parses_172 : D3 cX1_parses 172 (.getfield 246) 175 := ⟨by decide +kernel, rfl⟩
theorem eX1_parses_175 : DJ cX1_parses 175 (.if_icmp .ne) 180 178 := ⟨5, by decide +kernel, by decide, rfl⟩
theorem eX1_parses_178 : DC cX1_parses 178 (1) 179 := Or.inl ⟨1, ⟨by decide +kernel, rfl⟩, by decide⟩
theorem eX1_parses_179 : D1 cX1_parses 179 (.ireturn) 180 := ⟨by decide +kernel, rfl⟩
theorem eX1_parses_180 : D1 cX1_parses 180 (.aload_n 0) 181 := ⟨by decide +kernel, rfl⟩
theorem eX1_parses_181 : D3 cX1_parses 181 (.getfield 90) 184 := ⟨by decide +kernel, rfl⟩
theorem eX1_parses_184 : D1 cX1_parses 184 (.aload_n 0) 185 := ⟨by decide +kernel, rfl⟩
theorem eX1_parses_185 : D3 cX1_parses 185 (.getfield 284) 188 := ⟨by decide +kernel, rfl⟩
theorem eX1_parses_188 : D1 cX1_parses 188 (.iaload) 189 := ⟨by decide +kernel, rfl⟩
theorem eX1_parses_189 : DC cX1_parses 189 (3) 190 := Or.inl ⟨3, ⟨by decide +kernel, rfl⟩, by decide⟩
theorem eX1_parses_190 : DJ cX1_parses 190 (.if_icmp .eq) 202 193 := ⟨12, by decide +kernel, by decide, rfl⟩
theorem eX1_parses_193 : D1 cX1_parses 193 (.aload_n 0) 194 := ⟨by decide +kernel, rfl⟩
theorem eX1_parses_194 : DC cX1_parses 194 (38) 196 := Or.inr (Or.inl ⟨38, ⟨by decide +kernel, rfl⟩, by decide⟩)
theorem eX1_parses_196 : D3 cX1_parses 196 (.invokevirtual 275) 199 := ⟨by decide +kernel, rfl⟩
theorem eX1_parses_199 : DJ cX1_parses 199 (.ifCond .ne) 126 202 := ⟨-73, by decide +kernel, by decide, rfl⟩
theorem eX1_parses_202 : DC cX1_parses 202 (0) 203 := Or.inl ⟨0, ⟨by decide +kernel, rfl⟩, by decide⟩
theorem eX1_parses_203 : D1 cX1_parses 203 (.ireturn) 204 := ⟨by decide +kernel, rfl⟩
theorem eX1_rule_0 : D1 cX1_rule 0 (.aload_n 0) 1 := ⟨by decide +kernel, rfl⟩
theorem eX1_rule_1 : D3 cX1_rule 1 (.getfield 284) 4 := ⟨by decide +kernel, rfl⟩
theorem eX1_rule_4 : DC cX1_rule 4 (10) 6 := Or.inr (Or.inl ⟨10, ⟨by decide +kernel, rfl⟩, by decide⟩)
theorem eX1_rule_6 : DJ cX1_rule 6 (.if_icmp .ne) 12 9 := ⟨6, by decide +kernel, by decide, rfl⟩
theorem eX1_rule_9 : DC cX1_rule 9 (-4) 11 := Or.inr (Or.inl ⟨-4, ⟨by decide +kernel, rfl⟩, by decide⟩)
theorem eX1_rule_11 : D1 cX1_rule 11 (.ireturn) 12 := ⟨by decide +kernel, rfl⟩
theorem eX1_rule_12 : D1 cX1_rule 12 (.aload_n 0) 13 := ⟨by decide +kernel, rfl⟩
theorem eX1_rule_13 : D3 cX1_rule 13 (.invokevirtual 289) 16 := ⟨by decide +kernel, rfl⟩
theorem eX1_rule_16 : D1 cX1_rule 16 (.istore_n 1) 17 := ⟨by decide +kernel, rfl⟩
theorem eX1_rule_17 : D1 cX1_rule 17 (.aload_n 0) 18 := ⟨by decide +kernel, rfl⟩
theorem eX1_rule_18 : DC cX1_rule 18 (0) 19 := Or.inl ⟨0, ⟨by decide +kernel, rfl⟩, by decide⟩
theorem eX1_rule_19 : D3 cX1_rule 19 (.putfield 246) 22 := ⟨by decide +kernel, rfl⟩
theorem eX1_rule_22 : D1 cX1_rule 22 (.iload_n 1) 23 := ⟨by decide +kernel, rfl⟩
theorem eX1_rule_23 : DJ cX1_rule 23 (.ifCond .ne) 34 26 := ⟨11, by decide +kernel, by decide, rfl⟩
theorem eX1_rule_26 : DC cX1_rule 26 (-10) 28 := Or.inr (Or.inl ⟨-10, ⟨by decide +kernel, rfl⟩, by decide⟩)
theorem eX1_rule_28 : D1 cX1_rule 28 (.aload_n 0) 29 := ⟨by decide +kernel, rfl⟩
theorem eX1_rule_29 : D3 cX1_rule 29 (.getfield 251) 32 := ⟨by decide +kernel, rfl⟩
theorem eX1_rule_32 : D1 cX1_rule 32 (.isub) 33 := ⟨by decide +kernel, rfl⟩
theorem eX1_rule_33 : D1 cX1_rule 33 (.ireturn) 34 := ⟨by decide +kernel, rfl⟩
theorem eX1_rule_34 : D1 cX1_rule 34 (.aload_n 0) 35 := ⟨by decide +kernel, rfl⟩
theorem eX1_rule_35 : D1 cX1_rule 35 (.dup) 36 := ⟨by decide +kernel, rfl⟩
theorem eX1_rule_36 : D3 cX1_rule 36 (.getfield 284) 39 := ⟨by decide +kernel, rfl⟩
theorem eX1_rule_39 : DC cX1_rule 39 (1) 40 := Or.inl ⟨1, ⟨by decide +kernel, rfl⟩, by decide⟩
theorem eX1_rule_40 : D1 cX1_rule 40 (.iadd) 41 := ⟨by decide +kernel, rfl⟩
theorem eX1_rule_41 : D3 cX1_rule 41 (.putfield 284) 44 := ⟨by decide +kernel, rfl⟩
theorem eX1_rule_44 : D1 cX1_rule 44 (.aload_n 0) 45 := ⟨by decide +kernel, rfl⟩
theorem eX1_rule_45 : D3 cX1_rule 45 (.getfield 284) 48 := ⟨by decide +kernel, rfl⟩
theorem eX1_rule_48 : DC cX1_rule 48 (1) 49 := Or.inl ⟨1, ⟨by decide +kernel, rfl⟩, by decide⟩
theorem eX1_rule_49 : D1 cX1_rule 49 (.isub) 50 := ⟨by decide +kernel, rfl⟩
theorem eX1_rule_50 : D1 cX1_rule 50 (.ireturn) 51 := ⟨by decide +kernel, rfl⟩
theorem eX1_field_0 : D1 cX1_field 0 (.aload_n 0) 1 := ⟨by decide +kernel, rfl⟩
theorem eX1_field_1 : D3 cX1_field 1 (.getfield 293) 4 := ⟨by decide +kernel, rfl⟩
theorem eX1_field_4 : DC cX1_field 4 (30) 6 := Or.inr (Or.inl ⟨30, ⟨by decide +kernel, rfl⟩, by decide⟩)
theorem eX1_field_6 : D1 cX1_field 6 (.irem) 7 := ⟨by decide +kernel, rfl⟩
theorem eX1_field_7 : D2 cX1_field 7 (.istore 4) 9 := ⟨by decide +kernel, rfl⟩
theorem eX1_field_9 : D1 cX1_field 9 (.aload_n 0) 10 := ⟨by decide +kernel, rfl⟩
theorem eX1_field_10 : D3 cX1_field 10 (.getfield 293) 13 := ⟨by decide +kernel, rfl⟩
theorem eX1_field_13 : DC cX1_field 13 (30) 15 := Or.inr (Or.inl ⟨30, ⟨by decide +kernel, rfl⟩, by decide⟩)
theorem eX1_field_15 : D1 cX1_field 15 (.idiv) 16 := ⟨by decide +kernel, rfl⟩
theorem eX1_field_16 : DC cX1_field 16 (12) 18 := Or.inr (Or.inl ⟨12, ⟨by decide +kernel, rfl⟩, by decide⟩)
theorem eX1_field_18 : D1 cX1_field 18 (.irem) 19 := ⟨by decide +kernel, rfl⟩
theorem eX1_field_19 : D2 cX1_field 19 (.istore 5) 21 := ⟨by decide +kernel, rfl⟩
theorem eX1_field_21 : DC cX1_field 21 (0) 22 := Or.inl ⟨0, ⟨by decide +kernel, rfl⟩, by decide⟩
theorem eX1_field_22 : D2 cX1_field 22 (.istore 6) 24 := ⟨by decide +kernel, rfl⟩
theorem eX1_field_24 : DC cX1_field 24 (0) 25 := Or.inl ⟨0, ⟨by decide +kernel, rfl⟩, by decide⟩
theorem eX1_field_25 : D2 cX1_field 25 (.istore 7) 27 := ⟨by decide +kernel, rfl⟩
theorem eX1_field_27 : D2 cX1_field 27 (.iload 7) 29 := ⟨by decide +kernel, rfl⟩
theorem eX1_field_29 : D1 cX1_field 29 (.aload_n 0) 30 := ⟨by decide +kernel, rfl⟩
theorem eX1_field_30 : D3 cX1_field 30 (.getfield 136) 33 := ⟨by decide +kernel, rfl⟩
theorem eX1_field_33 : DJ cX1_field 33 (.if_icmp .ge) 72 36 := ⟨39, by decide +kernel, by decide, rfl⟩
theorem eX1_field_36 : D1 cX1_field 36 (.aload_n 0) 37 := ⟨by decide +kernel, rfl⟩
theorem eX1_field_37 : D3 cX1_field 37 (.getfield 16) 40 := ⟨by decide +kernel, rfl⟩
theorem eX1_field_40 : D2 cX1_field 40 (.iload 7) 42 := ⟨by decide +kernel, rfl⟩
theorem eX1_field_42 : D1 cX1_field 42 (.iaload) 43 := ⟨by decide +kernel, rfl⟩
theorem eX1_field_43 : D1 cX1_field 43 (.iload_n 2) 44 := ⟨by decide +kernel, rfl⟩
theorem eX1_field_44 : DJ cX1_field 44 (.if_icmp .ne) 62 47 := ⟨18, by decide +kernel, by decide, rfl⟩
theorem eX1_field_47 : D1 cX1_field 47 (.aload_n 0) 48 := ⟨by decide +kernel, rfl⟩
theorem eX1_field_48 : D3 cX1_field 48 (.getfield 7) 51 := ⟨by decide +kernel, rfl⟩
theorem eX1_field_51 : D2 cX1_field 51 (.iload 7) 53 := ⟨by decide +kernel, rfl⟩
theorem eX1_field_53 : D1 cX1_field 53 (.iaload) 54 := ⟨by decide +kernel, rfl⟩
theorem eX1_field_54 : DC cX1_field 54 (4) 55 := Or.inl ⟨4, ⟨by decide +kernel, rfl⟩, by decide⟩
theorem eX1_field_55 : DJ cX1_field 55 (.if_icmp .ne) 62 58 := ⟨7, by decide +kernel, by decide, rfl⟩
theorem eX1_field_58 : DC cX1_field 58 (1) 59 := Or.inl ⟨1, ⟨by decide +kernel, rfl⟩, by decide⟩
theorem eX1_field_59 : DJ cX1_field 59 .goto 64 62 := ⟨5, by decide +kernel, by decide, rfl⟩
theorem eX1_field_62 : D2 cX1_field 62 (.iload 6) 64 := ⟨by decide +kernel, rfl⟩
theorem eX1_field_64 : D2 cX1_field 64 (.istore 6) 66 := ⟨by decide +kernel, rfl⟩
theorem eX1_field_66 : D3 cX1_field 66 (.iinc 7 1) 69 := ⟨by decide +kernel, rfl⟩
theorem eX1_field_69 : DJ cX1_field 69 .goto 27 72 := ⟨-42, by decide +kernel, by decide, rfl⟩
theorem eX1_field_72 : D1 cX1_field 72 (.iload_n 1) 73 := ⟨by decide +kernel, rfl⟩
theorem eX1_field_73 : decode cX1_field 73 = .ok (.tableswitch 69 0 5 #[39, 47, 55, 57, 60, 66], 39) := by decide +kernel
theorem eX1_field_112 : D1 cX1_field 112 (.aload_n 0) 113 := ⟨by decide +kernel, rfl⟩
theorem eX1_field_113 : D3 cX1_field 113 (.getfield 75) 116 := ⟨by decide +kernel, rfl⟩
theorem eX1_field_116 : D2 cX1_field 116 (.iload 4) 118 := ⟨by decide +kernel, rfl⟩
theorem eX1_field_118 : D1 cX1_field 118 (.iaload) 119 := ⟨by decide +kernel, rfl⟩
theorem eX1_field_119 : D1 cX1_field 119 (.ireturn) 120 := ⟨by decide +kernel, rfl⟩
theorem eX1_field_120 : D1 cX1_field 120 (.aload_n 0) 121 := ⟨by decide +kernel, rfl⟩
theorem eX1_field_121 : D3 cX1_field 121 (.getfield 78) 124 := ⟨by decide +kernel, rfl⟩
theorem eX1_field_124 : D2 cX1_field 124 (.iload 4) 126 := ⟨by decide +kernel, rfl⟩
theorem eX1_field_126 : D1 cX1_field 126 (.iaload) 127 := ⟨by decide +kernel, rfl⟩
theorem eX1_field_127 : D1 cX1_field 127 (.ireturn) 128 := ⟨by decide +kernel, rfl⟩
theorem eX1_field_128 : D1 cX1_field 128 (.iload_n 3) 129 := ⟨by decide +kernel, rfl⟩
theorem eX1_field_129 : D1 cX1_field 129 (.ireturn) 130 := ⟨by decide +kernel, rfl⟩
theorem eX1_field_130 : D2 cX1_field 130 (.iload 5) 132 := ⟨by decide +kernel, rfl⟩
theorem eX1_field_132 : D1 cX1_field 132 (.ireturn) 133 := ⟨by decide +kernel, rfl⟩
theorem eX1_field_133 : D1 cX1_field 133 (.aload_n 0) 134 := ⟨by decide +kernel, rfl⟩
theorem eX1_field_134 : D1 cX1_field 134 (.iload_n 2) 135 := ⟨by decide +kernel, rfl⟩
theorem eX1_field_135 : D3 cX1_field 135 (.invokevirtual 146) 138 := ⟨by decide +kernel, rfl⟩
theorem eX1_field_138 : D1 cX1_field 138 (.ireturn) 139 := ⟨by decide +kernel, rfl⟩
theorem eX1_field_139 : D2 cX1_field 139 (.iload 6) 141 := ⟨by decide +kernel, rfl⟩
theorem eX1_field_141 : D1 cX1_field 141 (.ireturn) 142 := ⟨by decide +kernel, rfl⟩
theorem eX1_field_142 : D2 cX1_field 142 (.iload 5) 144 := ⟨by decide +kernel, rfl⟩
theorem eX1_field_144 : DC cX1_field 144 (2) 145 := Or.inl ⟨2, ⟨by decide +kernel, rfl⟩, by decide⟩
theorem eX1_field_145 : DJ cX1_field 145 (.if_icmp .ge) 164 148 := ⟨19, by decide +kernel, by decide, rfl⟩
theorem eX1_field_148 : D1 cX1_field 148 (.aload_n 0) 149 := ⟨by decide +kernel, rfl⟩
theorem eX1_field_149 : D3 cX1_field 149 (.getfield 75) 152 := ⟨by decide +kernel, rfl⟩
theorem eX1_field_152 : D2 cX1_field 152 (.iload 4) 154 := ⟨by decide +kernel, rfl⟩
theorem eX1_field_154 : D1 cX1_field 154 (.iaload) 155 := ⟨by decide +kernel, rfl⟩
theorem eX1_field_155 : DC cX1_field 155 (10) 157 := Or.inr (Or.inl ⟨10, ⟨by decide +kernel, rfl⟩, by decide⟩)
theorem eX1_field_157 : DJ cX1_field 157 (.if_icmp .ge) 164 160 := ⟨7, by decide +kernel, by decide, rfl⟩
theorem eX1_field_160 : DC cX1_field 160 (1) 161 := Or.inl ⟨1, ⟨by decide +kernel, rfl⟩, by decide⟩
theorem eX1_field_161 : DJ cX1_field 161 .goto 165 164 := ⟨4, by decide +kernel, by decide, rfl⟩
theorem eX1_field_164 : DC cX1_field 164 (0) 165 := Or.inl ⟨0, ⟨by decide +kernel, rfl⟩, by decide⟩
theorem eX1_field_165 : D1 cX1_field 165 (.ireturn) 166 := ⟨by decide +kernel, rfl⟩
theorem eX1_isSo_0 : D1 cX1_isSo 0 (.aload_n 0) 1 := ⟨by decide +kernel, rfl⟩
theorem eX1_isSo_1 : D1 cX1_isSo 1 (.aload_n 0) 2 := ⟨by decide +kernel, rfl⟩
theorem eX1_isSo_2 : D3 cX1_isSo 2 (.getfield 93) 5 := ⟨by decide +kernel, rfl⟩
theorem eX1_isSo_5 : D1 cX1_isSo 5 (.iload_n 1) 6 := ⟨by decide +kernel, rfl⟩
theorem eX1_isSo_6 : DC cX1_isSo 6 (1) 7 := Or.inl ⟨1, ⟨by decide +kernel, rfl⟩, by decide⟩
theorem eX1_isSo_7 : D1 cX1_isSo 7 (.iadd) 8 := ⟨by decide +kernel, rfl⟩
theorem eX1_isSo_8 : D1 cX1_isSo 8 (.iaload) 9 := ⟨by decide +kernel, rfl⟩
theorem eX1_isSo_9 : D1 cX1_isSo 9 (.iload_n 2) 10 := ⟨by decide +kernel, rfl⟩
theorem eX1_isSo_10 : D1 cX1_isSo 10 (.iload_n 3) 11 := ⟨by decide +kernel, rfl⟩
theorem eX1_isSo_11 : D3 cX1_isSo 11 (.invokevirtual 296) 14 := ⟨by decide +kernel, rfl⟩
theorem eX1_isSo_14 : D2 cX1_isSo 14 (.istore 4) 16 := ⟨by decide +kernel, rfl⟩
theorem eX1_isSo_16 : D1 cX1_isSo 16 (.aload_n 0) 17 := ⟨by decide +kernel, rfl⟩
theorem eX1_isSo_17 : D3 cX1_isSo 17 (.getfield 93) 20 := ⟨by decide +kernel, rfl⟩
theorem eX1_isSo_20 : D1 cX1_isSo 20 (.iload_n 1) 21 := ⟨by decide +kernel, rfl⟩
theorem eX1_isSo_21 : DC cX1_isSo 21 (2) 22 := Or.inl ⟨2, ⟨by decide +kernel, rfl⟩, by decide⟩
theorem eX1_isSo_22 : D1 cX1_isSo 22 (.iadd) 23 := ⟨by decide +kernel, rfl⟩
theorem eX1_isSo_23 : D1 cX1_isSo 23 (.iaload) 24 := ⟨by decide +kernel, rfl⟩
theorem eX1_isSo_24 : DC cX1_isSo 24 (61) 26 := Or.inr (Or.inl ⟨61, ⟨by decide +kernel, rfl⟩, by decide⟩)
theorem eX1_isSo_26 : DJ cX1_isSo 26 (.if_icmp .ne) 50 29 := ⟨24, by decide +kernel, by decide, rfl⟩
theorem eX1_isSo_29 : D2 cX1_isSo 29 (.iload 4) 31 := ⟨by decide +kernel, rfl⟩
theorem eX1_isSo_31 : D1 cX1_isSo 31 (.aload_n 0) 32 := ⟨by decide +kernel, rfl⟩
theorem eX1_isSo_32 : D3 cX1_isSo 32 (.getfield 93) 35 := ⟨by decide +kernel, rfl⟩
theorem eX1_isSo_35 : D1 cX1_isSo 35 (.iload_n 1) 36 := ⟨by decide +kernel, rfl⟩
theorem eX1_isSo_36 : DC cX1_isSo 36 (3) 37 := Or.inl ⟨3, ⟨by decide +kernel, rfl⟩, by decide⟩
theorem eX1_isSo_37 : D1 cX1_isSo 37 (.iadd) 38 := ⟨by decide +kernel, rfl⟩
theorem eX1_isSo_38 : D1 cX1_isSo 38 (.iaload) 39 := ⟨by decide +kernel, rfl⟩
theorem eX1_isSo_39 : DJ cX1_isSo 39 (.if_icmp .ne) 46 42 := ⟨7, by decide +kernel, by decide, rfl⟩
theorem eX1_isSo_42 : DC cX1_isSo 42 (1) 43 := Or.inl ⟨1, ⟨by decide +kernel, rfl⟩, by decide⟩
theorem eX1_isSo_43 : DJ cX1_isSo 43 .goto 102 46 := ⟨59, by decide +kernel, by decide, rfl⟩
theorem eX1_isSo_46 : DC cX1_isSo 46 (0) 47 := Or.inl ⟨0, ⟨by decide +kernel, rfl⟩, by decide⟩
theorem eX1_isSo_47 : DJ cX1_isSo 47 .goto 102 50 := ⟨55, by decide +kernel, by decide, rfl⟩
theorem eX1_isSo_50 : D1 cX1_isSo 50 (.aload_n 0) 51 := ⟨by decide +kernel, rfl⟩
theorem eX1_isSo_51 : D3 cX1_isSo 51 (.getfield 93) 54 := ⟨by decide +kernel, rfl⟩
theorem eX1_isSo_54 : D1 cX1_isSo 54 (.iload_n 1) 55 := ⟨by decide +kernel, rfl⟩
theorem eX1_isSo_55 : DC cX1_isSo 55 (2) 56 := Or.inl ⟨2, ⟨by decide +kernel, rfl⟩, by decide⟩
theorem eX1_isSo_56 : D1 cX1_isSo 56 (.iadd) 57 := ⟨by decide +kernel, rfl⟩
theorem eX1_isSo_57 : D1 cX1_isSo 57 (.iaload) 58 := ⟨by decide +kernel, rfl⟩
theorem eX1_isSo_58 : DC cX1_isSo 58 (60) 60 := Or.inr (Or.inl ⟨60, ⟨by decide +kernel, rfl⟩, by decide⟩)
theorem eX1_isSo_60 : DJ cX1_isSo 60 (.if_icmp .ne) 84 63 := ⟨24, by decide +kernel, by decide, rfl⟩
theorem eX1_isSo_63 : D2 cX1_isSo 63 (.iload 4) 65 := ⟨by decide +kernel, rfl⟩
theorem eX1_isSo_65 : D1 cX1_isSo 65 (.aload_n 0) 66 := ⟨by decide +kernel, rfl⟩
theorem eX1_isSo_66 : D3 cX1_isSo 66 (.getfield 93) 69 := ⟨by decide +kernel, rfl⟩
theorem eX1_isSo_69 : D1 cX1_isSo 69 (.iload_n 1) 70 := ⟨by decide +kernel, rfl⟩
theorem eX1_isSo_70 : DC cX1_isSo 70 (3) 71 := Or.inl ⟨3, ⟨by decide +kernel, rfl⟩, by decide⟩
theorem eX1_isSo_71 : D1 cX1_isSo 71 (.iadd) 72 := ⟨by decide +kernel, rfl⟩
theorem eX1_isSo_72 : D1 cX1_isSo 72 (.iaload) 73 := ⟨by decide +kernel, rfl⟩
theorem eX1_isSo_73 : DJ cX1_isSo 73 (.if_icmp .ge) 80 76 := ⟨7, by decide +kernel, by decide, rfl⟩
theorem eX1_isSo_76 : DC cX1_isSo 76 (1) 77 := Or.inl ⟨1, ⟨by decide +kernel, rfl⟩, by decide⟩
theorem eX1_isSo_77 : DJ cX1_isSo 77 .goto 102 80 := ⟨25, by decide +kernel, by decide, rfl⟩
theorem eX1_isSo_80 : DC cX1_isSo 80 (0) 81 := Or.inl ⟨0, ⟨by decide +kernel, rfl⟩, by decide⟩
theorem eX1_isSo_81 : DJ cX1_isSo 81 .goto 102 84 := ⟨21, by decide +kernel, by decide, rfl⟩
theorem eX1_isSo_84 : D2 cX1_isSo 84 (.iload 4) 86 := ⟨by decide +kernel, rfl⟩
theorem eX1_isSo_86 : D1 cX1_isSo 86 (.aload_n 0) 87 := ⟨by decide +kernel, rfl⟩
theorem eX1_isSo_87 : D3 cX1_isSo 87 (.getfield 93) 90 := ⟨by decide +kernel, rfl⟩
theorem eX1_isSo_90 : D1 cX1_isSo 90 (.iload_n 1) 91 := ⟨by decide +kernel, rfl⟩
theorem eX1_isSo_91 : DC cX1_isSo 91 (3) 92 := Or.inl ⟨3, ⟨by decide +kernel, rfl⟩, by decide⟩
theorem eX1_isSo_92 : D1 cX1_isSo 92 (.iadd) 93 := ⟨by decide +kernel, rfl⟩
theorem eX1_isSo_93 : D1 cX1_isSo 93 (.iaload) 94 := ⟨by decide +kernel, rfl⟩
theorem eX1_isSo_94 : DJ cX1_isSo 94 (.if_icmp .le) 101 97 := ⟨7, by decide +kernel, by decide, rfl⟩
theorem eX1_isSo_97 : DC cX1_isSo 97 (1) 98 := Or.inl ⟨1, ⟨by decide +kernel, rfl⟩, by decide⟩
theorem eX1_isSo_98 : DJ cX1_isSo 98 .goto 102 101 := ⟨4, by decide +kernel, by decide, rfl⟩
theorem eX1_isSo_101 : DC cX1_isSo 101 (0) 102 := Or.inl ⟨0, ⟨by decide +kernel, rfl⟩, by decide⟩
theorem eX1_isSo_102 : D2 cX1_isSo 102 (.istore 5) 104 := ⟨by decide +kernel, rfl⟩
theorem eX1_isSo_104 : D2 cX1_isSo 104 (.iload 5) 106 := ⟨by decide +kernel, rfl⟩
theorem eX1_isSo_106 : D1 cX1_isSo 106 (.aload_n 0) 107 := ⟨by decide +kernel, rfl⟩
theorem eX1_isSo_107 : D3 cX1_isSo 107 (.getfield 93) 110 := ⟨by decide +kernel, rfl⟩
theorem eX1_isSo_110 : D1 cX1_isSo 110 (.iload_n 1) 111 := ⟨by decide +kernel, rfl⟩
theorem eX1_isSo_111 : D1 cX1_isSo 111 (.iaload) 112 := ⟨by decide +kernel, rfl⟩
theorem eX1_isSo_112 : DC cX1_isSo 112 (1) 113 := Or.inl ⟨1, ⟨by decide +kernel, rfl⟩, by decide⟩
theorem eX1_isSo_113 : DJ cX1_isSo 113 (.if_icmp .ne) 120 116 := ⟨7, by decide +kernel, by decide, rfl⟩
theorem eX1_isSo_116 : DC cX1_isSo 116 (1) 117 := Or.inl ⟨1, ⟨by decide +kernel, rfl⟩, by decide⟩
theorem eX1_isSo_117 : DJ cX1_isSo 117 .goto 121 120 := ⟨4, by decide +kernel, by decide, rfl⟩
theorem eX1_isSo_120 : DC cX1_isSo 120 (0) 121 := Or.inl ⟨0, ⟨by decide +kernel, rfl⟩, by decide⟩
theorem eX1_isSo_121 : DJ cX1_isSo 121 (.if_icmp .eq) 128 124 := ⟨7, by decide +kernel, by decide, rfl⟩
theorem eX1_isSo_124 : DC cX1_isSo 124 (1) 125 := Or.inl ⟨1, ⟨by decide +kernel, rfl⟩, by decide⟩
theorem eX1_isSo_125 : DJ cX1_isSo 125 .goto 129 128 := ⟨4, by decide +kernel, by decide, rfl⟩
theorem eX1_isSo_128 : DC cX1_isSo 128 (0) 129 := Or.inl ⟨0, ⟨by decide +kernel, rfl⟩, by decide⟩
theorem eX1_isSo_129 : D1 cX1_isSo 129 (.ireturn) 130 := ⟨by decide +kernel, rfl⟩
theorem eX1_asked_0 : DC cX1_asked 0 (-1) 1 := Or.inl ⟨-1, ⟨by decide +kernel, rfl⟩, by decide⟩
theorem eX1_asked_1 : D1 cX1_asked 1 (.istore_n 3) 2 := ⟨by decide +kernel, rfl⟩
theorem eX1_asked_2 : DC cX1_asked 2 (0) 3 := Or.inl ⟨0, ⟨by decide +kernel, rfl⟩, by decide⟩
theorem eX1_asked_3 : D2 cX1_asked 3 (.istore 4) 5 := ⟨by decide +kernel, rfl⟩
theorem eX1_asked_5 : D2 cX1_asked 5 (.iload 4) 7 := ⟨by decide +kernel, rfl⟩
theorem eX1_asked_7 : D1 cX1_asked 7 (.aload_n 0) 8 := ⟨by decide +kernel, rfl⟩
theorem eX1_asked_8 : D3 cX1_asked 8 (.getfield 284) 11 := ⟨by decide +kernel, rfl⟩
theorem eX1_asked_11 : DJ cX1_asked 11 (.if_icmp .ge) 118 14 := ⟨107, by decide +kernel, by decide, rfl⟩
theorem eX1_asked_14 : D1 cX1_asked 14 (.aload_n 0) 15 := ⟨by decide +kernel, rfl⟩
theorem eX1_asked_15 : D3 cX1_asked 15 (.getfield 87) 18 := ⟨by decide +kernel, rfl⟩
theorem eX1_asked_18 : D2 cX1_asked 18 (.iload 4) 20 := ⟨by decide +kernel, rfl⟩
theorem eX1_asked_20 : D1 cX1_asked 20 (.iaload) 21 := ⟨by decide +kernel, rfl⟩
theorem eX1_asked_21 : DC cX1_asked 21 (5) 22 := Or.inl ⟨5, ⟨by decide +kernel, rfl⟩, by decide⟩
theorem eX1_asked_22 : DJ cX1_asked 22 (.if_icmp .eq) 41 25 := ⟨19, by decide +kernel, by decide, rfl⟩
theorem eX1_asked_25 : D1 cX1_asked 25 (.aload_n 0) 26 := ⟨by decide +kernel, rfl⟩
theorem eX1_asked_26 : D3 cX1_asked 26 (.getfield 87) 29 := ⟨by decide +kernel, rfl⟩
theorem eX1_asked_29 : D2 cX1_asked 29 (.iload 4) 31 := ⟨by decide +kernel, rfl⟩
theorem eX1_asked_31 : D1 cX1_asked 31 (.iaload) 32 := ⟨by decide +kernel, rfl⟩
theorem eX1_asked_32 : D1 cX1_asked 32 (.aload_n 0) 33 := ⟨by decide +kernel, rfl⟩
theorem eX1_asked_33 : D3 cX1_asked 33 (.getfield 29) 36 := ⟨by decide +kernel, rfl⟩
theorem eX1_asked_36 : D1 cX1_asked 36 (.iload_n 1) 37 := ⟨by decide +kernel, rfl⟩
theorem eX1_asked_37 : D1 cX1_asked 37 (.iaload) 38 := ⟨by decide +kernel, rfl⟩
theorem eX1_asked_38 : DJ cX1_asked 38 (.if_icmp .ne) 45 41 := ⟨7, by decide +kernel, by decide, rfl⟩
theorem eX1_asked_41 : DC cX1_asked 41 (1) 42 := Or.inl ⟨1, ⟨by decide +kernel, rfl⟩, by decide⟩
theorem eX1_asked_42 : DJ cX1_asked 42 .goto 46 45 := ⟨4, by decide +kernel, by decide, rfl⟩
theorem eX1_asked_45 : DC cX1_asked 45 (0) 46 := Or.inl ⟨0, ⟨by decide +kernel, rfl⟩, by decide⟩
theorem eX1_asked_46 : D2 cX1_asked 46 (.istore 5) 48 := ⟨by decide +kernel, rfl⟩
theorem eX1_asked_48 : DC cX1_asked 48 (0) 49 := Or.inl ⟨0, ⟨by decide +kernel, rfl⟩, by decide⟩
theorem eX1_asked_49 : D2 cX1_asked 49 (.istore 6) 51 := ⟨by decide +kernel, rfl⟩
theorem eX1_asked_51 : D2 cX1_asked 51 (.iload 6) 53 := ⟨by decide +kernel, rfl⟩
theorem eX1_asked_53 : D1 cX1_asked 53 (.aload_n 0) 54 := ⟨by decide +kernel, rfl⟩
theorem eX1_asked_54 : D3 cX1_asked 54 (.getfield 90) 57 := ⟨by decide +kernel, rfl⟩
theorem eX1_asked_57 : D2 cX1_asked 57 (.iload 4) 59 := ⟨by decide +kernel, rfl⟩
theorem eX1_asked_59 : D1 cX1_asked 59 (.iaload) 60 := ⟨by decide +kernel, rfl⟩
theorem eX1_asked_60 : DJ cX1_asked 60 (.if_icmp .ge) 100 63 := ⟨40, by decide +kernel, by decide, rfl⟩
theorem eX1_asked_63 : D2 cX1_asked 63 (.iload 5) 65 := ⟨by decide +kernel, rfl⟩
theorem eX1_asked_65 : DJ cX1_asked 65 (.ifCond .eq) 91 68 := ⟨26, by decide +kernel, by decide, rfl⟩
theorem eX1_asked_68 : D1 cX1_asked 68 (.aload_n 0) 69 := ⟨by decide +kernel, rfl⟩
theorem eX1_asked_69 : DC cX1_asked 69 (12) 71 := Or.inr (Or.inl ⟨12, ⟨by decide +kernel, rfl⟩, by decide⟩)
theorem eX1_asked_71 : D2 cX1_asked 71 (.iload 4) 73 := ⟨by decide +kernel, rfl⟩
theorem eX1_asked_73 : D1 cX1_asked 73 (.imul) 74 := ⟨by decide +kernel, rfl⟩
theorem eX1_asked_74 : DC cX1_asked 74 (4) 75 := Or.inl ⟨4, ⟨by decide +kernel, rfl⟩, by decide⟩
theorem eX1_asked_75 : D2 cX1_asked 75 (.iload 6) 77 := ⟨by decide +kernel, rfl⟩
theorem eX1_asked_77 : D1 cX1_asked 77 (.imul) 78 := ⟨by decide +kernel, rfl⟩
theorem eX1_asked_78 : D1 cX1_asked 78 (.iadd) 79 := ⟨by decide +kernel, rfl⟩
theorem eX1_asked_79 : D1 cX1_asked 79 (.iload_n 1) 80 := ⟨by decide +kernel, rfl⟩
theorem eX1_asked_80 : D1 cX1_asked 80 (.iload_n 2) 81 := ⟨by decide +kernel, rfl⟩
theorem eX1_asked_81 : D3 cX1_asked 81 (.invokevirtual 299) 84 := ⟨by decide +kernel, rfl⟩
theorem eX1_asked_84 : DJ cX1_asked 84 (.ifCond .eq) 91 87 := ⟨7, by decide +kernel, by decide, rfl⟩
theorem eX1_asked_87 : DC cX1_asked 87 (1) 88 := Or.inl ⟨1, ⟨by decide +kernel, rfl⟩, by decide⟩
theorem eX1_asked_88 : DJ cX1_asked 88 .goto 92 91 := ⟨4, by decide +kernel, by decide, rfl⟩
theorem eX1_asked_91 : DC cX1_asked 91 (0) 92 := Or.inl ⟨0, ⟨by decide +kernel, rfl⟩, by decide⟩
theorem eX1_asked_92 : D2 cX1_asked 92 (.istore 5) 94 := ⟨by decide +kernel, rfl⟩
theorem eX1_asked_94 : D3 cX1_asked 94 (.iinc 6 1) 97 := ⟨by decide +kernel, rfl⟩
theorem eX1_asked_97 : DJ cX1_asked 97 .goto 51 100 := ⟨-46, by decide +kernel, by decide, rfl⟩
theorem eX1_asked_100 : D2 cX1_asked 100 (.iload 5) 102 := ⟨by decide +kernel, rfl⟩
theorem eX1_asked_102 : DJ cX1_asked 102 (.ifCond .eq) 110 105 := ⟨8, by decide +kernel, by decide, rfl⟩
theorem eX1_asked_105 : D2 cX1_asked 105 (.iload 4) 107 := ⟨by decide +kernel, rfl⟩
theorem eX1_asked_107 : DJ cX1_asked 107 .goto 111 110 := ⟨4, by decide +kernel, by decide, rfl⟩
theorem eX1_asked_110 : D1 cX1_asked 110 (.iload_n 3) 111 := ⟨by decide +kernel, rfl⟩
theorem eX1_asked_111 : D1 cX1_asked 111 (.istore_n 3) 112 := ⟨by decide +kernel, rfl⟩
theorem eX1_asked_112 : D3 cX1_asked 112 (.iinc 4 1) 115 := ⟨by decide +kernel, rfl⟩
theorem eX1_asked_115 : DJ cX1_asked 115 .goto 5 118 := ⟨-110, by decide +kernel, by decide, rfl⟩
theorem eX1_asked_118 : D1 cX1_asked 118 (.iload_n 3) 119 := ⟨by decide +kernel, rfl⟩
theorem eX1_asked_119 : D1 cX1_asked 119 (.ireturn) 120 := ⟨by decide +kernel, rfl⟩
def sM_letter_L11 (J6 : Int32 → Option (Int32)) : Int64 → Int32 → Option (Int32) :=
  fx (fun _ _ => none) (fun self10 x8 x9 =>
    if x8 ≤ (0 : Int64) then (J6 x9) else (nm (x8 >>> (Int32.toInt64 (5 : Int32) &&& 63)) fun x11 => nm (x9 + (1 : Int32)) fun x12 => self10 x11 x12)) FU
def sM_letter (a1 : Int32) (a2 : Int32) : Option (Int32) :=
  bd (sM_wordOf a1) fun v1 => nm v1 fun x2 => nm x2 fun x3 => nm (0 : Int32) fun x4 => jn (fun x5 => if a2 < x5 then (nm (Int64.toInt32 ((x2 >>> (Int32.toInt64 ((5 : Int32) * ((x5 - (1 : Int32)) - a2)) &&& 63)) &&& (31 : Int64))) fun x7 => if x7 = (27 : Int32) then (some (42 : Int32)) else (some (((97 : Int32) + x7) - (1 : Int32)))) else (some (0 : Int32))) fun J6 => sM_letter_L11 J6 x3 x4
abbrev rmX1_letter : Room := { frames := 2, cells := 0, slots := 0, locals := 47 }
theorem pkX1_letter : PkS yX1_letter cX1_letter 8 (some .int) 2 := ⟨q1087, q58, q1088, by decide +kernel⟩
set_option maxHeartbeats 4000000 in
theorem met_X1_letter (l : Launch) (D : va_G) (tys : List (ClassId × FieldType)) (ws : va_W) (NX : Nat → State → Prop) (a1 : Int32) (a2 : Int32) (sz : Nat) (r : Int32) (ho : sM_letter a1 a2 = some r) : Met l yX1_letter (ws_ yX1_letter cX1_letter 8 (some .int)) rmX1_letter (va_Pc [.int a1, .int a2] (MPre D vwCl tys ws NX sz)) (QcI D vwCl tys ws r (va_A ws sz)) 0 0 (va_A ws sz) := by
  refine met_XJ (cw := fun (_ : Unit) => ws) (w := ()) (cc := cX1_letter) (lv := [(0, .int a1), (1, .int a2)]) pnX1 _ (Nat.le_of_ble_eq_true rfl) rfl ?_
  intro p e s m args below meth c R Q A B hN hr hsz hA hmm hRm hQ hAe
  unfold sM_letter at ho
  refine j_iload_n B eX1_letter_0 0 rfl ?_
  refine j_callSl (As := [.int a1]) B hA (met_X1_wordOf l D _ _ _ a1) NT_ok pkX1_wordOf q1089 rfl rfl hRm ⟨Nat.le_of_ble_eq_true rfl, Nat.le_of_ble_eq_true rfl⟩ rfl rfl (Nat.le_of_ble_eq_true rfl) ⟨Nat.zero_le _, Nat.zero_le _⟩ eX1_letter_1 ho (fun v1 ho => ?_)
  refine j_lstore_n (lv' := fun x2 => [(1, .int a2), (2, .long x2)]) B eX1_letter_4 [2, 0] (by decide) (fun _ => rfl) ho (fun x2 ho => ?_)
  refine j_lload_n B eX1_letter_5 1 rfl ?_
  refine j_lstore (lv' := fun x3 => [(1, .int a2), (2, .long x2), (4, .long x3)]) B eX1_letter_6 [1, 2, 0] (by decide) (fun _ => rfl) ho (fun x3 ho => ?_)
  refine j_const B eX1_letter_8 ?_
  refine j_istore (lv' := fun x4 => [(1, .int a2), (2, .long x2), (4, .long x3), (6, .int x4)]) B eX1_letter_9 [1, 2, 3, 0] (by decide) (fun _ => rfl) ho (fun x4 ho => ?_)
  refine jn1 (C := fun x5 => XJ p l e R s m args below meth c 0 0 Q A D vwCl (fun (_ : Unit) => ws) 8 () 30 [(1, .int a2), (2, .long x2), (6, .int x5)] []) ho (fun x5 ho => ?_) (fun J6 hJ6 ho => ?_)
  · refine j_iload_n B eX1_letter_30 0 rfl ?_
    refine j_iload B eX1_letter_31 2 rfl ?_
    refine j_icmp_lt B eX1_letter_33 ho (fun _ ho => ?_) (fun _ ho => ?_)
    · refine j_lload_n B eX1_letter_38 1 rfl ?_
      refine j_const B eX1_letter_39 ?_
      refine j_iload B eX1_letter_40 2 rfl ?_
      refine j_const B eX1_letter_42 ?_
      refine j_isub B eX1_letter_43 ?_
      refine j_iload_n B eX1_letter_44 0 rfl ?_
      refine j_isub B eX1_letter_45 ?_
      refine j_imul B eX1_letter_46 ?_
      refine j_lshr B eX1_letter_47 ?_
      refine j_ldc2 B eX1_letter_48 q1096 ?_
      refine j_land B eX1_letter_51 ?_
      refine j_l2i B eX1_letter_52 ?_
      refine j_istore (lv' := fun x7 => [(7, .int x7)]) B eX1_letter_53 [0] (by decide) (fun _ => rfl) ho (fun x7 ho => ?_)
      refine j_iload B eX1_letter_55 0 rfl ?_
      refine j_const B eX1_letter_57 ?_
      refine j_icmp_ne B eX1_letter_59 ho (fun _ ho => ?_) (fun _ ho => ?_)
      · refine j_const B eX1_letter_67 ?_
        refine j_iload B eX1_letter_69 0 rfl ?_
        refine j_iadd B eX1_letter_71 ?_
        refine j_const B eX1_letter_72 ?_
        refine j_isub B eX1_letter_73 ?_
        exact j_iret B hr hQ eX1_letter_74 ho
      · refine j_const B eX1_letter_62 ?_
        refine j_goto B eX1_letter_64 ?_
        exact j_iret B hr hQ eX1_letter_74 ho
    · refine j_const B eX1_letter_36 ?_
      exact j_iret B hr hQ eX1_letter_37 ho
  · unfold sM_letter_L11 at ho
    refine fx2 (C := fun x8 x9 => XJ p l e R s m args below meth c 0 0 Q A D vwCl (fun (_ : Unit) => ws) 8 () 11 [(1, .int a2), (2, .long x2), (4, .long x8), (6, .int x9)] []) (fun self10 hself10 x8 x9 ho => ?_) FU _ _ ho
    refine j_lload B eX1_letter_11 2 rfl ?_
    refine j_lconst (v := 0) B eX1_letter_13 rfl ?_
    refine j_lcmp_le B eX1_letter_14 eX1_letter_15 ho (fun _ ho => ?_) (fun _ ho => ?_)
    · refine j_lsub (lv' := [(1, .int a2), (2, .long x2), (6, .int x9)]) [0, 1, 3] rfl ?_
      exact hJ6 _ ho
    · refine j_lload B eX1_letter_18 2 rfl ?_
      refine j_const B eX1_letter_20 ?_
      refine j_lshr B eX1_letter_21 ?_
      refine j_lstore (lv' := fun x11 => [(1, .int a2), (2, .long x2), (4, .long x11), (6, .int x9)]) B eX1_letter_22 [1, 2, 0, 3] (by decide) (fun _ => rfl) ho (fun x11 ho => ?_)
      refine j_iinc (d := 1) (lv' := fun x12 => [(1, .int a2), (2, .long x2), (4, .long x11), (6, .int x12)]) B eX1_letter_24 3 rfl (by decide) [1, 2, 3, 0] (by decide) (fun _ => rfl) ho (fun x12 ho => ?_)
      refine j_goto B eX1_letter_27 ?_
      exact hself10 _ _ ho
def sM_fits_L5 (a1 : Int32) (a2 : Int32) (w : Wd) : Int32 → Int32 → Option (Int32) :=
  fx (fun _ _ => none) (fun self5 x3 x4 =>
    if (w.2.1 90 36) ≤ x4 then (gd (isB x3) (some x3)) else (jn (fun z6 => nm z6 fun x8 => nm (x4 + (1 : Int32)) fun x9 => self5 x8 x9) fun J7 => if x3 = 0 then (J7 (0 : Int32)) else (bd (sM_letter a1 (x4 - a2)) fun v10 => rd (inb x4 120) (w.2.1 28 (Int32.toNatClampNeg x4)) fun v11 => if v10 = v11 then (J7 (1 : Int32)) else (J7 (0 : Int32))))) FU
def sM_fits (w : Wd) (a1 : Int32) (a2 : Int32) : Option (Int32) :=
  nm (1 : Int32) fun x1 => nm a2 fun x2 => sM_fits_L5 a1 a2 w x1 x2
abbrev rmX1_fits : Room := { frames := 3, cells := 0, slots := 0, locals := 74 }
theorem pkX1_fits : PkV yX1_fits RX1 cX1_fits 5 (some .boolean) 2 := ⟨q1084, qs45, q58, q1085, by decide +kernel⟩
set_option maxHeartbeats 4000000 in
theorem met_X1_fits (l : Launch) (D : va_G) (g : Nat → ClassId) (ad : Nat → Nat) (w : Wd) (a1 : Int32) (a2 : Int32) (sz : Nat) (r : Int32) (ho : sM_fits w a1 a2 = some r) : Met l yX1_fits (ws_ yX1_fits cX1_fits 5 (some .boolean)) rmX1_fits (va_Pc [.ref (ad 99), .int a1, .int a2] (MPre D vwCl (tysG g) (cellsM g ad w) NT sz)) (QcI D vwCl (tysG g) (cellsM g ad w) r (va_A (cellsM g ad w) sz)) 0 0 (va_A (cellsM g ad w) sz) := by
  refine met_XJ (cw := cellsM g ad) (w := w) (cc := cX1_fits) (lv := [(0, .ref (ad 99)), (1, .int a1), (2, .int a2)]) pnX1 _ (Nat.le_of_ble_eq_true rfl) rfl ?_
  intro p e s m args below meth c R Q A B hN hr hsz hA hmm hRm hQ hAe
  unfold sM_fits at ho
  refine j_const B eX1_fits_0 ?_
  refine j_istore_n (lv' := fun x1 => [(0, .ref (ad 99)), (1, .int a1), (2, .int a2), (3, .int x1)]) B eX1_fits_1 [1, 2, 3, 0] (by decide) (fun _ => rfl) ho (fun x1 ho => ?_)
  refine j_iload_n B eX1_fits_2 2 rfl ?_
  refine j_istore (lv' := fun x2 => [(0, .ref (ad 99)), (1, .int a1), (2, .int a2), (3, .int x1), (4, .int x2)]) B eX1_fits_3 [1, 2, 3, 4, 0] (by decide) (fun _ => rfl) ho (fun x2 ho => ?_)
  unfold sM_fits_L5 at ho
  refine fx2 (C := fun x3 x4 => XJ p l e R s m args below meth c 0 0 Q A D vwCl (cellsM g ad) 5 w 5 [(0, .ref (ad 99)), (1, .int a1), (2, .int a2), (3, .int x3), (4, .int x4)] []) (fun self5 hself5 x3 x4 ho => ?_) FU _ _ ho
  refine j_iload B eX1_fits_5 4 rfl ?_
  refine j_aload_n B eX1_fits_7 0 rfl ?_
  refine gfM_36 B eX1_fits_8 ?_
  refine j_icmp_ge B eX1_fits_11 ho (fun _ ho => ?_) (fun _ ho => ?_)
  · refine j_iload_n B eX1_fits_48 3 rfl ?_
    obtain ⟨hb, ho⟩ := gd_e ho
    exact j_zret B hr hb hQ eX1_fits_49 ho
  · refine j_iload_n B eX1_fits_14 3 rfl ?_
    refine jn1 (C := fun z6 => XJ p l e R s m args below meth c 0 0 Q A D vwCl (cellsM g ad) 5 w 41 [(0, .ref (ad 99)), (1, .int a1), (2, .int a2), (4, .int x4)] [.int z6]) ho (fun z6 ho => ?_) (fun J7 hJ7 ho => ?_)
    · refine j_istore_n (lv' := fun x8 => [(0, .ref (ad 99)), (1, .int a1), (2, .int a2), (3, .int x8), (4, .int x4)]) B eX1_fits_41 [1, 2, 3, 0, 4] (by decide) (fun _ => rfl) ho (fun x8 ho => ?_)
      refine j_iinc (d := 1) (lv' := fun x9 => [(0, .ref (ad 99)), (1, .int a1), (2, .int a2), (3, .int x8), (4, .int x9)]) B eX1_fits_42 4 rfl (by decide) [1, 2, 3, 4, 0] (by decide) (fun _ => rfl) ho (fun x9 ho => ?_)
      refine j_goto B eX1_fits_45 ?_
      exact hself5 _ _ ho
    · refine j_if_eq B eX1_fits_15 ho (fun _ ho => ?_) (fun _ ho => ?_)
      · refine j_const B eX1_fits_40 ?_
        refine j_lsub (lv' := [(0, .ref (ad 99)), (1, .int a1), (2, .int a2), (4, .int x4)]) [0, 1, 2, 4] rfl ?_
        exact hJ7 _ ho
      · refine j_iload_n B eX1_fits_18 1 rfl ?_
        refine j_iload B eX1_fits_19 4 rfl ?_
        refine j_iload_n B eX1_fits_21 2 rfl ?_
        refine j_isub B eX1_fits_22 ?_
        refine j_callSi (As := [.int a1, .int (x4 - a2)]) B hA (met_X1_letter l D _ _ _ a1 (x4 - a2)) NT_ok pkX1_letter q1086 rfl rfl hRm ⟨Nat.le_of_ble_eq_true rfl, Nat.le_of_ble_eq_true rfl⟩ rfl rfl (Nat.le_of_ble_eq_true rfl) ⟨Nat.zero_le _, Nat.zero_le _⟩ eX1_fits_23 ho (fun v10 ho => ?_)
        refine j_aload_n B eX1_fits_26 0 rfl ?_
        refine gfM_28 B eX1_fits_27 ?_
        refine j_iload B eX1_fits_30 4 rfl ?_
        refine ldM_28 B eX1_fits_32 ho (fun v11 ho => ?_)
        refine j_icmp_ne B eX1_fits_33 ho (fun _ ho => ?_) (fun _ ho => ?_)
        · refine j_const B eX1_fits_40 ?_
          refine j_lsub (lv' := [(0, .ref (ad 99)), (1, .int a1), (2, .int a2), (4, .int x4)]) [0, 1, 2, 4] rfl ?_
          exact hJ7 _ ho
        · refine j_const B eX1_fits_36 ?_
          refine j_goto B eX1_fits_37 ?_
          refine j_lsub (lv' := [(0, .ref (ad 99)), (1, .int a1), (2, .int a2), (4, .int x4)]) [0, 1, 2, 4] rfl ?_
          exact hJ7 _ ho
def sM_sign (w : Wd)  : Option (Int32) :=
  if (w.2.1 90 29) ≤ (w.2.1 90 36) then (some (-1 : Int32)) else (rd (inb (w.2.1 90 36) 120) (w.2.1 28 (Int32.toNatClampNeg (w.2.1 90 36))) fun v1 => some v1)
abbrev rmX1_sign : Room := { frames := 0, cells := 0, slots := 0, locals := 0 }
theorem pkX1_sign : PkV yX1_sign RX1 cX1_sign 1 (some .int) 0 := ⟨q1099, qs46, q58, q1100, by decide +kernel⟩
set_option maxHeartbeats 4000000 in
theorem met_X1_sign (l : Launch) (D : va_G) (g : Nat → ClassId) (ad : Nat → Nat) (w : Wd)  (sz : Nat) (r : Int32) (ho : sM_sign w = some r) : Met l yX1_sign (ws_ yX1_sign cX1_sign 1 (some .int)) rmX1_sign (va_Pc [.ref (ad 99)] (MPre D vwCl (tysG g) (cellsM g ad w) NT sz)) (QcI D vwCl (tysG g) (cellsM g ad w) r (va_A (cellsM g ad w) sz)) 0 0 (va_A (cellsM g ad w) sz) := by
  refine met_XJ (cw := cellsM g ad) (w := w) (cc := cX1_sign) (lv := [(0, .ref (ad 99))]) pnX1 _ (Nat.le_of_ble_eq_true rfl) rfl ?_
  intro p e s m args below meth c R Q A B hN hr hsz hA hmm hRm hQ hAe
  unfold sM_sign at ho
  refine j_aload_n B eX1_sign_0 0 rfl ?_
  refine gfM_36 B eX1_sign_1 ?_
  refine j_aload_n B eX1_sign_4 0 rfl ?_
  refine gfM_29 B eX1_sign_5 ?_
  refine j_icmp_ge B eX1_sign_8 ho (fun _ ho => ?_) (fun _ ho => ?_)
  · refine j_const B eX1_sign_23 ?_
    exact j_iret B hr hQ eX1_sign_24 ho
  · refine j_aload_n B eX1_sign_11 0 rfl ?_
    refine gfM_28 B eX1_sign_12 ?_
    refine j_aload_n B eX1_sign_15 0 rfl ?_
    refine gfM_36 B eX1_sign_16 ?_
    refine ldM_28 B eX1_sign_19 ho (fun v1 ho => ?_)
    refine j_goto B eX1_sign_20 ?_
    exact j_iret B hr hQ eX1_sign_24 ho
def sM_word_L14 (a2 : Int32) (x1 : Int32) (w2 : Wd) (J9 : Int32 → Int32 → Option (Int32 × Wd)) : Int32 → Int32 → Int32 → Option (Int32 × Wd) :=
  fx (fun _ _ _ => none) (fun self14 x11 x12 x13 =>
    if a2 < x13 then (J9 x11 x12) else (bd (sM_fits w2 x13 x1) fun v15 => if v15 = 0 then (nm (x13 + (1 : Int32)) fun x24 => self14 x11 x12 x24) else (bd (sM_letter x13 ((w2.2.1 90 36) - x1)) fun v16 => if v16 = 0 then (nm x13 fun x22 => nm (x13 + (1 : Int32)) fun x23 => self14 x11 x22 x23) else (bd (sM_letter x13 ((w2.2.1 90 36) - x1)) fun v17 => bd (sM_sign w2) fun v18 => if v17 = v18 then (nm (x11 + (1 : Int32)) fun x20 => nm (x13 + (1 : Int32)) fun x21 => self14 x20 x12 x21) else (nm (x13 + (1 : Int32)) fun x19 => self14 x11 x12 x19))))) FU
def sM_word_L5 (a1 : Int32) (a2 : Int32) (x1 : Int32) : Wd → Option (Int32 × Wd) :=
  fx (fun _ => none) (fun self3 w2 =>
    nm (0 : Int32) fun x4 => nm (-1 : Int32) fun x5 => nm a1 fun x6 => jn (fun x7 x8 => if x8 < 0 then (if x7 = 0 then (some ((-1 : Int32), w2)) else (nm (stG w2 90 36 ((w2.2.1 90 36) + (1 : Int32))) fun w10 => self3 w10)) else (some (x8, w2))) fun J9 => sM_word_L14 a2 x1 w2 J9 x4 x5 x6) FU
def sM_word (w : Wd) (a1 : Int32) (a2 : Int32) : Option (Int32 × Wd) :=
  nm (w.2.1 90 36) fun x1 => sM_word_L5 a1 a2 x1 w
abbrev rmX1_word : Room := { frames := 4, cells := 0, slots := 0, locals := 98 }
theorem pkX1_word : PkV yX1_word RX1 cX1_word 7 (some .int) 2 := ⟨q1080, qs44, q58, q1081, by decide +kernel⟩
set_option maxHeartbeats 4000000 in
theorem met_X1_word (l : Launch) (D : va_G) (g : Nat → ClassId) (ad : Nat → Nat) (w : Wd) (a1 : Int32) (a2 : Int32) (sz : Nat) (r : Int32) (w' : Wd) (ho : sM_word w a1 a2 = some (r, w')) : Met l yX1_word (ws_ yX1_word cX1_word 7 (some .int)) rmX1_word (va_Pc [.ref (ad 99), .int a1, .int a2] (MPre D vwCl (tysG g) (cellsM g ad w) NT sz)) (QcI D vwCl (tysG g) (cellsM g ad w') r (va_A (cellsM g ad w) sz)) 0 0 (va_A (cellsM g ad w) sz) := by
  refine met_XJ (cw := cellsM g ad) (w := w) (cc := cX1_word) (lv := [(0, .ref (ad 99)), (1, .int a1), (2, .int a2)]) pnX1 _ (Nat.le_of_ble_eq_true rfl) rfl ?_
  intro p e s m args below meth c R Q A B hN hr hsz hA hmm hRm hQ hAe
  unfold sM_word at ho
  refine j_aload_n B eX1_word_0 0 rfl ?_
  refine gfM_36 B eX1_word_1 ?_
  refine j_istore_n (lv' := fun x1 => [(0, .ref (ad 99)), (1, .int a1), (2, .int a2), (3, .int x1)]) B eX1_word_4 [1, 2, 3, 0] (by decide) (fun _ => rfl) ho (fun x1 ho => ?_)
  unfold sM_word_L5 at ho
  refine fx1 (C := fun w2 => XJ p l e R s m args below meth c 0 0 Q A D vwCl (cellsM g ad) 7 w2 5 [(0, .ref (ad 99)), (1, .int a1), (2, .int a2), (3, .int x1)] []) (fun self3 hself3 w2 ho => ?_) FU _ ho
  refine j_const B eX1_word_5 ?_
  refine j_istore (lv' := fun x4 => [(0, .ref (ad 99)), (1, .int a1), (2, .int a2), (3, .int x1), (4, .int x4)]) B eX1_word_6 [1, 2, 3, 4, 0] (by decide) (fun _ => rfl) ho (fun x4 ho => ?_)
  refine j_const B eX1_word_8 ?_
  refine j_istore (lv' := fun x5 => [(0, .ref (ad 99)), (1, .int a1), (2, .int a2), (3, .int x1), (4, .int x4), (5, .int x5)]) B eX1_word_9 [1, 2, 3, 4, 5, 0] (by decide) (fun _ => rfl) ho (fun x5 ho => ?_)
  refine j_iload_n B eX1_word_11 1 rfl ?_
  refine j_istore (lv' := fun x6 => [(0, .ref (ad 99)), (1, .int a1), (2, .int a2), (3, .int x1), (4, .int x4), (5, .int x5), (6, .int x6)]) B eX1_word_12 [1, 2, 3, 4, 5, 6, 0] (by decide) (fun _ => rfl) ho (fun x6 ho => ?_)
  refine jn2 (C := fun x7 x8 => XJ p l e R s m args below meth c 0 0 Q A D vwCl (cellsM g ad) 7 w2 81 [(0, .ref (ad 99)), (1, .int a1), (2, .int a2), (3, .int x1), (4, .int x7), (5, .int x8)] []) ho (fun x7 x8 ho => ?_) (fun J9 hJ9 ho => ?_)
  · refine j_iload B eX1_word_81 5 rfl ?_
    refine j_if_lt B eX1_word_83 ho (fun _ ho => ?_) (fun _ ho => ?_)
    · refine j_iload B eX1_word_89 4 rfl ?_
      refine j_if_ne B eX1_word_91 ho (fun _ ho => ?_) (fun _ ho => ?_)
      · refine j_aload_n B eX1_word_96 0 rfl ?_
        refine j_dup B eX1_word_97 rfl ?_
        refine gfM_36 B eX1_word_98 ?_
        refine j_const B eX1_word_101 ?_
        refine j_iadd B eX1_word_102 ?_
        refine pfM_36 B eX1_word_103 ho (fun w10 ho => ?_)
        refine j_goto B eX1_word_106 ?_
        refine j_lsub (lv' := [(0, .ref (ad 99)), (1, .int a1), (2, .int a2), (3, .int x1)]) [0, 1, 2, 3] rfl ?_
        exact hself3 _ ho
      · refine j_const B eX1_word_94 ?_
        exact j_iretw B hr hQ eX1_word_95 ho
    · refine j_iload B eX1_word_86 5 rfl ?_
      exact j_iretw B hr hQ eX1_word_88 ho
  · unfold sM_word_L14 at ho
    refine fx3 (C := fun x11 x12 x13 => XJ p l e R s m args below meth c 0 0 Q A D vwCl (cellsM g ad) 7 w2 14 [(0, .ref (ad 99)), (1, .int a1), (2, .int a2), (3, .int x1), (4, .int x11), (5, .int x12), (6, .int x13)] []) (fun self14 hself14 x11 x12 x13 ho => ?_) FU _ _ _ ho
    refine j_iload B eX1_word_14 6 rfl ?_
    refine j_iload_n B eX1_word_16 2 rfl ?_
    refine j_icmp_gt B eX1_word_17 ho (fun _ ho => ?_) (fun _ ho => ?_)
    · refine j_lsub (lv' := [(0, .ref (ad 99)), (1, .int a1), (2, .int a2), (3, .int x1), (4, .int x11), (5, .int x12)]) [0, 1, 2, 3, 4, 5] rfl ?_
      exact hJ9 _ _ ho
    · refine j_aload_n B eX1_word_20 0 rfl ?_
      refine j_iload B eX1_word_21 6 rfl ?_
      refine j_iload_n B eX1_word_23 3 rfl ?_
      refine j_callVi (As := [.int x13, .int x1]) B hA (met_X1_fits l D g ad w2 x13 x1) NT_ok pkX1_fits q1082 0 rfl rfl rfl rfl hRm ⟨Nat.le_of_ble_eq_true rfl, Nat.le_of_ble_eq_true rfl⟩ rfl rfl (Nat.le_of_ble_eq_true rfl) ⟨Nat.zero_le _, Nat.zero_le _⟩ eX1_word_24 ho (fun v15 ho => ?_)
      refine j_if_ne B eX1_word_27 ho (fun _ ho => ?_) (fun _ ho => ?_)
      · refine j_iload B eX1_word_33 6 rfl ?_
        refine j_aload_n B eX1_word_35 0 rfl ?_
        refine gfM_36 B eX1_word_36 ?_
        refine j_iload_n B eX1_word_39 3 rfl ?_
        refine j_isub B eX1_word_40 ?_
        refine j_callSi (As := [.int x13, .int ((w2.2.1 90 36) - x1)]) B hA (met_X1_letter l D _ _ _ x13 ((w2.2.1 90 36) - x1)) NT_ok pkX1_letter q1086 rfl rfl hRm ⟨Nat.le_of_ble_eq_true rfl, Nat.le_of_ble_eq_true rfl⟩ rfl rfl (Nat.le_of_ble_eq_true rfl) ⟨Nat.zero_le _, Nat.zero_le _⟩ eX1_word_41 ho (fun v16 ho => ?_)
        refine j_if_ne B eX1_word_44 ho (fun _ ho => ?_) (fun _ ho => ?_)
        · refine j_iload B eX1_word_54 6 rfl ?_
          refine j_aload_n B eX1_word_56 0 rfl ?_
          refine gfM_36 B eX1_word_57 ?_
          refine j_iload_n B eX1_word_60 3 rfl ?_
          refine j_isub B eX1_word_61 ?_
          refine j_callSi (As := [.int x13, .int ((w2.2.1 90 36) - x1)]) B hA (met_X1_letter l D _ _ _ x13 ((w2.2.1 90 36) - x1)) NT_ok pkX1_letter q1086 rfl rfl hRm ⟨Nat.le_of_ble_eq_true rfl, Nat.le_of_ble_eq_true rfl⟩ rfl rfl (Nat.le_of_ble_eq_true rfl) ⟨Nat.zero_le _, Nat.zero_le _⟩ eX1_word_62 ho (fun v17 ho => ?_)
          refine j_aload_n B eX1_word_65 0 rfl ?_
          refine j_callVi (As := []) B hA (met_X1_sign l D g ad w2) NT_ok pkX1_sign q1097 0 rfl rfl rfl rfl hRm ⟨Nat.le_of_ble_eq_true rfl, Nat.le_of_ble_eq_true rfl⟩ rfl rfl (Nat.le_of_ble_eq_true rfl) ⟨Nat.zero_le _, Nat.zero_le _⟩ eX1_word_66 ho (fun v18 ho => ?_)
          refine j_icmp_ne B eX1_word_69 ho (fun _ ho => ?_) (fun _ ho => ?_)
          · refine j_iinc (d := 1) (lv' := fun x19 => [(0, .ref (ad 99)), (1, .int a1), (2, .int a2), (3, .int x1), (4, .int x11), (5, .int x12), (6, .int x19)]) B eX1_word_75 6 rfl (by decide) [1, 2, 3, 4, 5, 6, 0] (by decide) (fun _ => rfl) ho (fun x19 ho => ?_)
            refine j_goto B eX1_word_78 ?_
            exact hself14 _ _ _ ho
          · refine j_iinc (d := 1) (lv' := fun x20 => [(0, .ref (ad 99)), (1, .int a1), (2, .int a2), (3, .int x1), (4, .int x20), (5, .int x12), (6, .int x13)]) B eX1_word_72 4 rfl (by decide) [1, 2, 3, 4, 0, 5, 6] (by decide) (fun _ => rfl) ho (fun x20 ho => ?_)
            refine j_iinc (d := 1) (lv' := fun x21 => [(0, .ref (ad 99)), (1, .int a1), (2, .int a2), (3, .int x1), (4, .int x20), (5, .int x12), (6, .int x21)]) B eX1_word_75 6 rfl (by decide) [1, 2, 3, 4, 5, 6, 0] (by decide) (fun _ => rfl) ho (fun x21 ho => ?_)
            refine j_goto B eX1_word_78 ?_
            exact hself14 _ _ _ ho
        · refine j_iload B eX1_word_47 6 rfl ?_
          refine j_istore (lv' := fun x22 => [(0, .ref (ad 99)), (1, .int a1), (2, .int a2), (3, .int x1), (4, .int x11), (5, .int x22), (6, .int x13)]) B eX1_word_49 [1, 2, 3, 4, 5, 0, 6] (by decide) (fun _ => rfl) ho (fun x22 ho => ?_)
          refine j_goto B eX1_word_51 ?_
          refine j_iinc (d := 1) (lv' := fun x23 => [(0, .ref (ad 99)), (1, .int a1), (2, .int a2), (3, .int x1), (4, .int x11), (5, .int x22), (6, .int x23)]) B eX1_word_75 6 rfl (by decide) [1, 2, 3, 4, 5, 6, 0] (by decide) (fun _ => rfl) ho (fun x23 ho => ?_)
          refine j_goto B eX1_word_78 ?_
          exact hself14 _ _ _ ho
      · refine j_goto B eX1_word_30 ?_
        refine j_iinc (d := 1) (lv' := fun x24 => [(0, .ref (ad 99)), (1, .int a1), (2, .int a2), (3, .int x1), (4, .int x11), (5, .int x12), (6, .int x24)]) B eX1_word_75 6 rfl (by decide) [1, 2, 3, 4, 5, 6, 0] (by decide) (fun _ => rfl) ho (fun x24 ho => ?_)
        refine j_goto B eX1_word_78 ?_
        exact hself14 _ _ _ ho
def sM_takes (w : Wd) (a1 : Int32) : Option (Int32 × Wd) :=
  bd (sM_sign w) fun v1 => if v1 = a1 then (nm (stG w 90 36 ((w.2.1 90 36) + (1 : Int32))) fun w2 => some ((1 : Int32), w2)) else (some ((0 : Int32), w))
abbrev rmX1_takes : Room := { frames := 1, cells := 0, slots := 0, locals := 20 }
theorem pkX1_takes : PkV yX1_takes RX1 cX1_takes 2 (some .boolean) 1 := ⟨q1103, qs47, q58, q1104, by decide +kernel⟩
set_option maxHeartbeats 4000000 in
theorem met_X1_takes (l : Launch) (D : va_G) (g : Nat → ClassId) (ad : Nat → Nat) (w : Wd) (a1 : Int32) (sz : Nat) (r : Int32) (w' : Wd) (ho : sM_takes w a1 = some (r, w')) : Met l yX1_takes (ws_ yX1_takes cX1_takes 2 (some .boolean)) rmX1_takes (va_Pc [.ref (ad 99), .int a1] (MPre D vwCl (tysG g) (cellsM g ad w) NT sz)) (QcI D vwCl (tysG g) (cellsM g ad w') r (va_A (cellsM g ad w) sz)) 0 0 (va_A (cellsM g ad w) sz) := by
  refine met_XJ (cw := cellsM g ad) (w := w) (cc := cX1_takes) (lv := [(0, .ref (ad 99)), (1, .int a1)]) pnX1 _ (Nat.le_of_ble_eq_true rfl) rfl ?_
  intro p e s m args below meth c R Q A B hN hr hsz hA hmm hRm hQ hAe
  unfold sM_takes at ho
  refine j_aload_n B eX1_takes_0 0 rfl ?_
  refine j_callVi (As := []) B hA (met_X1_sign l D g ad w) NT_ok pkX1_sign q1097 0 rfl rfl rfl rfl hRm ⟨Nat.le_of_ble_eq_true rfl, Nat.le_of_ble_eq_true rfl⟩ rfl rfl (Nat.le_of_ble_eq_true rfl) ⟨Nat.zero_le _, Nat.zero_le _⟩ eX1_takes_1 ho (fun v1 ho => ?_)
  refine j_iload_n B eX1_takes_4 1 rfl ?_
  refine j_icmp_eq B eX1_takes_5 ho (fun _ ho => ?_) (fun _ ho => ?_)
  · refine j_aload_n B eX1_takes_10 0 rfl ?_
    refine j_dup B eX1_takes_11 rfl ?_
    refine gfM_36 B eX1_takes_12 ?_
    refine j_const B eX1_takes_15 ?_
    refine j_iadd B eX1_takes_16 ?_
    refine pfM_36 B eX1_takes_17 ho (fun w2 ho => ?_)
    refine j_const B eX1_takes_20 ?_
    exact j_zretw B hr rfl hQ eX1_takes_21 ho
  · refine j_const B eX1_takes_8 ?_
    exact j_zretw B hr rfl hQ eX1_takes_9 ho
def sM_isDigit (a1 : Int32) : Option (Int32) :=
  if a1 < (48 : Int32) then (some (0 : Int32)) else (if (57 : Int32) < a1 then (some (0 : Int32)) else (some (1 : Int32)))
abbrev rmX1_isDigit : Room := { frames := 0, cells := 0, slots := 0, locals := 0 }
theorem pkX1_isDigit : PkS yX1_isDigit cX1_isDigit 1 (some .boolean) 1 := ⟨q1110, q58, q1111, by decide +kernel⟩
set_option maxHeartbeats 4000000 in
theorem met_X1_isDigit (l : Launch) (D : va_G) (tys : List (ClassId × FieldType)) (ws : va_W) (NX : Nat → State → Prop) (a1 : Int32) (sz : Nat) (r : Int32) (ho : sM_isDigit a1 = some r) : Met l yX1_isDigit (ws_ yX1_isDigit cX1_isDigit 1 (some .boolean)) rmX1_isDigit (va_Pc [.int a1] (MPre D vwCl tys ws NX sz)) (QcI D vwCl tys ws r (va_A ws sz)) 0 0 (va_A ws sz) := by
  refine met_XJ (cw := fun (_ : Unit) => ws) (w := ()) (cc := cX1_isDigit) (lv := [(0, .int a1)]) pnX1 _ (Nat.le_of_ble_eq_true rfl) rfl ?_
  intro p e s m args below meth c R Q A B hN hr hsz hA hmm hRm hQ hAe
  unfold sM_isDigit at ho
  refine j_iload_n B eX1_isDigit_0 0 rfl ?_
  refine j_const B eX1_isDigit_1 ?_
  refine j_icmp_lt B eX1_isDigit_3 ho (fun _ ho => ?_) (fun _ ho => ?_)
  · refine j_const B eX1_isDigit_16 ?_
    exact j_zret B hr rfl hQ eX1_isDigit_17 ho
  · refine j_iload_n B eX1_isDigit_6 0 rfl ?_
    refine j_const B eX1_isDigit_7 ?_
    refine j_icmp_gt B eX1_isDigit_9 ho (fun _ ho => ?_) (fun _ ho => ?_)
    · refine j_const B eX1_isDigit_16 ?_
      exact j_zret B hr rfl hQ eX1_isDigit_17 ho
    · refine j_const B eX1_isDigit_12 ?_
      refine j_goto B eX1_isDigit_13 ?_
      exact j_zret B hr rfl hQ eX1_isDigit_17 ho
def sM_test_L79 (J17 : Int32 → Wd → Option (Int32 × Wd)) : Int32 → Int32 → Wd → Option (Int32 × Wd) :=
  fx (fun _ _ _ => none) (fun self27 x24 x25 w26 =>
    if (3 : Int32) ≤ x25 then (J17 x24 w26) else (bd (sM_sign w26) fun v28 => bd (sM_isDigit v28) fun v29 => if v29 = 0 then (J17 x24 w26) else (bd (sM_sign w26) fun v30 => nm ((((10 : Int32) * x24) + v30) - (48 : Int32)) fun x31 => nm (stG w26 90 36 ((w26.2.1 90 36) + (1 : Int32))) fun w32 => nm (x25 + (1 : Int32)) fun x33 => self27 x31 x33 w32))) FU
def sM_test (w : Wd) (a1 : Int32) : Option (Int32 × Wd) :=
  bd2 (sM_takes w (33 : Int32)) fun v1 w2 => nm v1 fun x3 => bd2 (sM_word w2 (8 : Int32) (14 : Int32)) fun v4 w5 => nm v4 fun x6 => if 0 ≤ x6 then (bd (sM_sign w5) fun v7 => nm v7 fun x8 => jn (nm (stG w5 90 36 ((w5.2.1 90 36) + (1 : Int32))) fun w10 => bd (sM_sign w10) fun v11 => bd (sM_isDigit v11) fun v12 => if v12 = 0 then (some ((0 : Int32), w10)) else (nm (0 : Int32) fun x13 => nm (0 : Int32) fun x14 => jn (fun x15 w16 => jn (fun z18 => rd (inb a1 120) (stG w16 35 (Int32.toNatClampNeg a1) z18) fun w20 => rd (inb (a1 + (1 : Int32)) 120) (stG w20 35 (Int32.toNatClampNeg (a1 + (1 : Int32))) (x6 - (8 : Int32))) fun w21 => rd (inb (a1 + (2 : Int32)) 120) (stG w21 35 (Int32.toNatClampNeg (a1 + (2 : Int32))) x8) fun w22 => rd (inb (a1 + (3 : Int32)) 120) (stG w22 35 (Int32.toNatClampNeg (a1 + (3 : Int32))) x15) fun w23 => some ((1 : Int32), w23)) fun J19 => if x3 = 0 then (J19 (0 : Int32)) else (J19 (1 : Int32))) fun J17 => sM_test_L79 J17 x13 x14 w10)) fun J9 => if x8 = (61 : Int32) then (J9) else (if x8 = (60 : Int32) then (J9) else (if x8 = (62 : Int32) then (J9) else (some ((0 : Int32), w5))))) else (some ((0 : Int32), w5))
abbrev rmX1_test : Room := { frames := 5, cells := 0, slots := 0, locals := 124 }
theorem pkX1_test : PkV yX1_test RX1 cX1_test 7 (some .boolean) 1 := ⟨q1107, qs48, q58, q1108, by decide +kernel⟩
set_option maxHeartbeats 4000000 in
theorem met_X1_test (l : Launch) (D : va_G) (g : Nat → ClassId) (ad : Nat → Nat) (w : Wd) (a1 : Int32) (sz : Nat) (r : Int32) (w' : Wd) (ho : sM_test w a1 = some (r, w')) : Met l yX1_test (ws_ yX1_test cX1_test 7 (some .boolean)) rmX1_test (va_Pc [.ref (ad 99), .int a1] (MPre D vwCl (tysG g) (cellsM g ad w) NT sz)) (QcI D vwCl (tysG g) (cellsM g ad w') r (va_A (cellsM g ad w) sz)) 0 0 (va_A (cellsM g ad w) sz) := by
  refine met_XJ (cw := cellsM g ad) (w := w) (cc := cX1_test) (lv := [(0, .ref (ad 99)), (1, .int a1)]) pnX1 _ (Nat.le_of_ble_eq_true rfl) rfl ?_
  intro p e s m args below meth c R Q A B hN hr hsz hA hmm hRm hQ hAe
  unfold sM_test at ho
  refine j_aload_n B eX1_test_0 0 rfl ?_
  refine j_const B eX1_test_1 ?_
  refine j_callViw (As := [.int (33 : Int32)]) B hA (met_X1_takes l D g ad w (33 : Int32)) NT_ok pkX1_takes q1101 0 rfl rfl rfl rfl hRm ⟨Nat.le_of_ble_eq_true rfl, Nat.le_of_ble_eq_true rfl⟩ rfl rfl (Nat.le_of_ble_eq_true rfl) ⟨Nat.zero_le _, Nat.zero_le _⟩ eX1_test_3 ho (fun v1 w2 ho => ?_)
  refine j_istore_n (lv' := fun x3 => [(0, .ref (ad 99)), (1, .int a1), (2, .int x3)]) B eX1_test_6 [1, 2, 0] (by decide) (fun _ => rfl) ho (fun x3 ho => ?_)
  refine j_aload_n B eX1_test_7 0 rfl ?_
  refine j_const B eX1_test_8 ?_
  refine j_const B eX1_test_10 ?_
  refine j_callViw (As := [.int (8 : Int32), .int (14 : Int32)]) B hA (met_X1_word l D g ad w2 (8 : Int32) (14 : Int32)) NT_ok pkX1_word q1078 0 rfl rfl rfl rfl hRm ⟨Nat.le_of_ble_eq_true rfl, Nat.le_of_ble_eq_true rfl⟩ rfl rfl (Nat.le_of_ble_eq_true rfl) ⟨Nat.zero_le _, Nat.zero_le _⟩ eX1_test_12 ho (fun v4 w5 ho => ?_)
  refine j_istore_n (lv' := fun x6 => [(0, .ref (ad 99)), (1, .int a1), (2, .int x3), (3, .int x6)]) B eX1_test_15 [1, 2, 3, 0] (by decide) (fun _ => rfl) ho (fun x6 ho => ?_)
  refine j_iload_n B eX1_test_16 3 rfl ?_
  refine j_if_ge B eX1_test_17 ho (fun _ ho => ?_) (fun _ ho => ?_)
  · refine j_aload_n B eX1_test_22 0 rfl ?_
    refine j_callVi (As := []) B hA (met_X1_sign l D g ad w5) NT_ok pkX1_sign q1097 0 rfl rfl rfl rfl hRm ⟨Nat.le_of_ble_eq_true rfl, Nat.le_of_ble_eq_true rfl⟩ rfl rfl (Nat.le_of_ble_eq_true rfl) ⟨Nat.zero_le _, Nat.zero_le _⟩ eX1_test_23 ho (fun v7 ho => ?_)
    refine j_istore (lv' := fun x8 => [(0, .ref (ad 99)), (1, .int a1), (2, .int x3), (3, .int x6), (4, .int x8)]) B eX1_test_26 [1, 2, 3, 4, 0] (by decide) (fun _ => rfl) ho (fun x8 ho => ?_)
    refine j_iload B eX1_test_28 4 rfl ?_
    refine j_const B eX1_test_30 ?_
    refine jn0 (C := XJ p l e R s m args below meth c 0 0 Q A D vwCl (cellsM g ad) 7 w5 51 [(0, .ref (ad 99)), (1, .int a1), (2, .int x3), (3, .int x6), (4, .int x8)] []) ho (fun ho => ?_) (fun J9 hJ9 ho => ?_)
    · refine j_aload_n B eX1_test_51 0 rfl ?_
      refine j_dup B eX1_test_52 rfl ?_
      refine gfM_36 B eX1_test_53 ?_
      refine j_const B eX1_test_56 ?_
      refine j_iadd B eX1_test_57 ?_
      refine pfM_36 B eX1_test_58 ho (fun w10 ho => ?_)
      refine j_aload_n B eX1_test_61 0 rfl ?_
      refine j_callVi (As := []) B hA (met_X1_sign l D g ad w10) NT_ok pkX1_sign q1097 0 rfl rfl rfl rfl hRm ⟨Nat.le_of_ble_eq_true rfl, Nat.le_of_ble_eq_true rfl⟩ rfl rfl (Nat.le_of_ble_eq_true rfl) ⟨Nat.zero_le _, Nat.zero_le _⟩ eX1_test_62 ho (fun v11 ho => ?_)
      refine j_callSi (As := [.int v11]) B hA (met_X1_isDigit l D _ _ _ v11) NT_ok pkX1_isDigit q1109 rfl rfl hRm ⟨Nat.le_of_ble_eq_true rfl, Nat.le_of_ble_eq_true rfl⟩ rfl rfl (Nat.le_of_ble_eq_true rfl) ⟨Nat.zero_le _, Nat.zero_le _⟩ eX1_test_65 ho (fun v12 ho => ?_)
      refine j_if_ne B eX1_test_68 ho (fun _ ho => ?_) (fun _ ho => ?_)
      · refine j_const B eX1_test_73 ?_
        refine j_istore (lv' := fun x13 => [(0, .ref (ad 99)), (1, .int a1), (2, .int x3), (3, .int x6), (4, .int x8), (5, .int x13)]) B eX1_test_74 [1, 2, 3, 4, 5, 0] (by decide) (fun _ => rfl) ho (fun x13 ho => ?_)
        refine j_const B eX1_test_76 ?_
        refine j_istore (lv' := fun x14 => [(0, .ref (ad 99)), (1, .int a1), (2, .int x3), (3, .int x6), (4, .int x8), (5, .int x13), (6, .int x14)]) B eX1_test_77 [1, 2, 3, 4, 5, 6, 0] (by decide) (fun _ => rfl) ho (fun x14 ho => ?_)
        refine jn2 (C := fun x15 w16 => XJ p l e R s m args below meth c 0 0 Q A D vwCl (cellsM g ad) 7 w16 126 [(0, .ref (ad 99)), (1, .int a1), (2, .int x3), (3, .int x6), (4, .int x8), (5, .int x15)] []) ho (fun x15 w16 ho => ?_) (fun J17 hJ17 ho => ?_)
        · refine j_aload_n B eX1_test_126 0 rfl ?_
          refine gfM_35 B eX1_test_127 ?_
          refine j_iload_n B eX1_test_130 1 rfl ?_
          refine j_iload_n B eX1_test_131 2 rfl ?_
          refine jn1 (C := fun z18 => XJ p l e R s m args below meth c 0 0 Q A D vwCl (cellsM g ad) 7 w16 140 [(0, .ref (ad 99)), (1, .int a1), (3, .int x6), (4, .int x8), (5, .int x15)] [.int z18, .int a1, .ref (ad 35)]) ho (fun z18 ho => ?_) (fun J19 hJ19 ho => ?_)
          · refine stM_35 B eX1_test_140 ho (fun w20 ho => ?_)
            refine j_aload_n B eX1_test_141 0 rfl ?_
            refine gfM_35 B eX1_test_142 ?_
            refine j_iload_n B eX1_test_145 1 rfl ?_
            refine j_const B eX1_test_146 ?_
            refine j_iadd B eX1_test_147 ?_
            refine j_iload_n B eX1_test_148 2 rfl ?_
            refine j_const B eX1_test_149 ?_
            refine j_isub B eX1_test_151 ?_
            refine stM_35 B eX1_test_152 ho (fun w21 ho => ?_)
            refine j_aload_n B eX1_test_153 0 rfl ?_
            refine gfM_35 B eX1_test_154 ?_
            refine j_iload_n B eX1_test_157 1 rfl ?_
            refine j_const B eX1_test_158 ?_
            refine j_iadd B eX1_test_159 ?_
            refine j_iload B eX1_test_160 3 rfl ?_
            refine stM_35 B eX1_test_162 ho (fun w22 ho => ?_)
            refine j_aload_n B eX1_test_163 0 rfl ?_
            refine gfM_35 B eX1_test_164 ?_
            refine j_iload_n B eX1_test_167 1 rfl ?_
            refine j_const B eX1_test_168 ?_
            refine j_iadd B eX1_test_169 ?_
            refine j_iload B eX1_test_170 4 rfl ?_
            refine stM_35 B eX1_test_172 ho (fun w23 ho => ?_)
            refine j_const B eX1_test_173 ?_
            exact j_zretw B hr rfl hQ eX1_test_174 ho
          · refine j_if_eq B eX1_test_132 ho (fun _ ho => ?_) (fun _ ho => ?_)
            · refine j_const B eX1_test_139 ?_
              refine j_lsub (lv' := [(0, .ref (ad 99)), (1, .int a1), (3, .int x6), (4, .int x8), (5, .int x15)]) [0, 1, 3, 4, 5] rfl ?_
              exact hJ19 _ ho
            · refine j_const B eX1_test_135 ?_
              refine j_goto B eX1_test_136 ?_
              refine j_lsub (lv' := [(0, .ref (ad 99)), (1, .int a1), (3, .int x6), (4, .int x8), (5, .int x15)]) [0, 1, 3, 4, 5] rfl ?_
              exact hJ19 _ ho
        · unfold sM_test_L79 at ho
          refine fx3 (C := fun x24 x25 w26 => XJ p l e R s m args below meth c 0 0 Q A D vwCl (cellsM g ad) 7 w26 79 [(0, .ref (ad 99)), (1, .int a1), (2, .int x3), (3, .int x6), (4, .int x8), (5, .int x24), (6, .int x25)] []) (fun self27 hself27 x24 x25 w26 ho => ?_) FU _ _ _ ho
          refine j_iload B eX1_test_79 6 rfl ?_
          refine j_const B eX1_test_81 ?_
          refine j_icmp_ge B eX1_test_82 ho (fun _ ho => ?_) (fun _ ho => ?_)
          · refine j_lsub (lv' := [(0, .ref (ad 99)), (1, .int a1), (2, .int x3), (3, .int x6), (4, .int x8), (5, .int x24)]) [0, 1, 2, 3, 4, 5] rfl ?_
            exact hJ17 _ _ ho
          · refine j_aload_n B eX1_test_85 0 rfl ?_
            refine j_callVi (As := []) B hA (met_X1_sign l D g ad w26) NT_ok pkX1_sign q1097 0 rfl rfl rfl rfl hRm ⟨Nat.le_of_ble_eq_true rfl, Nat.le_of_ble_eq_true rfl⟩ rfl rfl (Nat.le_of_ble_eq_true rfl) ⟨Nat.zero_le _, Nat.zero_le _⟩ eX1_test_86 ho (fun v28 ho => ?_)
            refine j_callSi (As := [.int v28]) B hA (met_X1_isDigit l D _ _ _ v28) NT_ok pkX1_isDigit q1109 rfl rfl hRm ⟨Nat.le_of_ble_eq_true rfl, Nat.le_of_ble_eq_true rfl⟩ rfl rfl (Nat.le_of_ble_eq_true rfl) ⟨Nat.zero_le _, Nat.zero_le _⟩ eX1_test_89 ho (fun v29 ho => ?_)
            refine j_if_eq B eX1_test_92 ho (fun _ ho => ?_) (fun _ ho => ?_)
            · refine j_lsub (lv' := [(0, .ref (ad 99)), (1, .int a1), (2, .int x3), (3, .int x6), (4, .int x8), (5, .int x24)]) [0, 1, 2, 3, 4, 5] rfl ?_
              exact hJ17 _ _ ho
            · refine j_const B eX1_test_95 ?_
              refine j_iload B eX1_test_97 5 rfl ?_
              refine j_imul B eX1_test_99 ?_
              refine j_aload_n B eX1_test_100 0 rfl ?_
              refine j_callVi (As := []) B hA (met_X1_sign l D g ad w26) NT_ok pkX1_sign q1097 0 rfl rfl rfl rfl hRm ⟨Nat.le_of_ble_eq_true rfl, Nat.le_of_ble_eq_true rfl⟩ rfl rfl (Nat.le_of_ble_eq_true rfl) ⟨Nat.zero_le _, Nat.zero_le _⟩ eX1_test_101 ho (fun v30 ho => ?_)
              refine j_iadd B eX1_test_104 ?_
              refine j_const B eX1_test_105 ?_
              refine j_isub B eX1_test_107 ?_
              refine j_istore (lv' := fun x31 => [(0, .ref (ad 99)), (1, .int a1), (2, .int x3), (3, .int x6), (4, .int x8), (5, .int x31), (6, .int x25)]) B eX1_test_108 [1, 2, 3, 4, 5, 0, 6] (by decide) (fun _ => rfl) ho (fun x31 ho => ?_)
              refine j_aload_n B eX1_test_110 0 rfl ?_
              refine j_dup B eX1_test_111 rfl ?_
              refine gfM_36 B eX1_test_112 ?_
              refine j_const B eX1_test_115 ?_
              refine j_iadd B eX1_test_116 ?_
              refine pfM_36 B eX1_test_117 ho (fun w32 ho => ?_)
              refine j_iinc (d := 1) (lv' := fun x33 => [(0, .ref (ad 99)), (1, .int a1), (2, .int x3), (3, .int x6), (4, .int x8), (5, .int x31), (6, .int x33)]) B eX1_test_120 6 rfl (by decide) [1, 2, 3, 4, 5, 6, 0] (by decide) (fun _ => rfl) ho (fun x33 ho => ?_)
              refine j_goto B eX1_test_123 ?_
              exact hself27 _ _ _ ho
      · refine j_const B eX1_test_71 ?_
        exact j_zretw B hr rfl hQ eX1_test_72 ho
    · refine j_icmp_eq B eX1_test_32 ho (fun _ ho => ?_) (fun _ ho => ?_)
      · exact hJ9 ho
      · refine j_iload B eX1_test_35 4 rfl ?_
        refine j_const B eX1_test_37 ?_
        refine j_icmp_eq B eX1_test_39 ho (fun _ ho => ?_) (fun _ ho => ?_)
        · exact hJ9 ho
        · refine j_iload B eX1_test_42 4 rfl ?_
          refine j_const B eX1_test_44 ?_
          refine j_icmp_eq B eX1_test_46 ho (fun _ ho => ?_) (fun _ ho => ?_)
          · exact hJ9 ho
          · refine j_const B eX1_test_49 ?_
            exact j_zretw B hr rfl hQ eX1_test_50 ho
  · refine j_const B eX1_test_20 ?_
    exact j_zretw B hr rfl hQ eX1_test_21 ho
def sM_parses_L126  : Wd → Option (Int32 × Wd) :=
  fx (fun _ => none) (fun self22 w21 =>
    rd (inb (w21.2.1 90 30) 10) (w21.2.1 34 (Int32.toNatClampNeg (w21.2.1 90 30))) fun v23 => bd2 (sM_test w21 (((12 : Int32) * (w21.2.1 90 30)) + ((4 : Int32) * v23))) fun v24 w25 => if v24 = 0 then (some ((0 : Int32), w25)) else (rd (inb (w25.2.1 90 30) 10) (w25.2.1 34 (Int32.toNatClampNeg (w25.2.1 90 30))) fun v26 => rd (inb (w25.2.1 90 30) 10) (stG w25 34 (Int32.toNatClampNeg (w25.2.1 90 30)) (v26 + (1 : Int32))) fun w27 => if (w27.2.1 90 36) = (w27.2.1 90 29) then (some ((1 : Int32), w27)) else (rd (inb (w27.2.1 90 30) 10) (w27.2.1 34 (Int32.toNatClampNeg (w27.2.1 90 30))) fun v28 => if v28 = (3 : Int32) then (some ((0 : Int32), w27)) else (bd2 (sM_takes w27 (38 : Int32)) fun v29 w30 => if v29 = 0 then (some ((0 : Int32), w30)) else (self22 w30))))) FU
def sM_parses (w : Wd)  : Option (Int32 × Wd) :=
  nm (stG w 90 36 (0 : Int32)) fun w1 => bd2 (sM_word w1 (6 : Int32) (7 : Int32)) fun v2 w3 => nm v2 fun x4 => if x4 < 0 then (some ((0 : Int32), w3)) else (bd2 (sM_takes w3 (32 : Int32)) fun v5 w6 => if v5 = 0 then (some ((0 : Int32), w6)) else (bd2 (sM_word w6 (0 : Int32) (5 : Int32)) fun v7 w8 => nm v7 fun x9 => if 0 ≤ x9 then (jn (fun z10 => rd (inb (w8.2.1 90 30) 10) (stG w8 32 (Int32.toNatClampNeg (w8.2.1 90 30)) (vp_nar .boolean z10)) fun w12 => rd (inb (w12.2.1 90 30) 10) (stG w12 33 (Int32.toNatClampNeg (w12.2.1 90 30)) x9) fun w13 => rd (inb (w13.2.1 90 30) 10) (stG w13 34 (Int32.toNatClampNeg (w13.2.1 90 30)) (0 : Int32)) fun w14 => if (w14.2.1 90 36) = (w14.2.1 90 29) then (some ((1 : Int32), w14)) else (bd2 (sM_takes w14 (32 : Int32)) fun v15 w16 => if v15 = 0 then (some ((0 : Int32), w16)) else (bd2 (sM_word w16 (15 : Int32) (15 : Int32)) fun v17 w18 => if v17 < 0 then (some ((0 : Int32), w18)) else (bd2 (sM_takes w18 (32 : Int32)) fun v19 w20 => if v19 = 0 then (some ((0 : Int32), w20)) else (sM_parses_L126 w20))))) fun J11 => if x4 = (7 : Int32) then (J11 (1 : Int32)) else (J11 (0 : Int32))) else (some ((0 : Int32), w8))))
abbrev rmX1_parses : Room := { frames := 6, cells := 0, slots := 0, locals := 150 }
theorem pkX1_parses : PkV yX1_parses RX1 cX1_parses 3 (some .boolean) 0 := ⟨q1076, qs43, q58, q1077, by decide +kernel⟩
set_option maxHeartbeats 4000000 in
theorem met_X1_parses (l : Launch) (D : va_G) (g : Nat → ClassId) (ad : Nat → Nat) (w : Wd)  (sz : Nat) (r : Int32) (w' : Wd) (ho : sM_parses w = some (r, w')) : Met l yX1_parses (ws_ yX1_parses cX1_parses 3 (some .boolean)) rmX1_parses (va_Pc [.ref (ad 99)] (MPre D vwCl (tysG g) (cellsM g ad w) NT sz)) (QcI D vwCl (tysG g) (cellsM g ad w') r (va_A (cellsM g ad w) sz)) 0 0 (va_A (cellsM g ad w) sz) := by
  refine met_XJ (cw := cellsM g ad) (w := w) (cc := cX1_parses) (lv := [(0, .ref (ad 99))]) pnX1 _ (Nat.le_of_ble_eq_true rfl) rfl ?_
  intro p e s m args below meth c R Q A B hN hr hsz hA hmm hRm hQ hAe
  unfold sM_parses at ho
  refine j_aload_n B eX1_parses_0 0 rfl ?_
  refine j_const B eX1_parses_1 ?_
  refine pfM_36 B eX1_parses_2 ho (fun w1 ho => ?_)
  refine j_aload_n B eX1_parses_5 0 rfl ?_
  refine j_const B eX1_parses_6 ?_
  refine j_const B eX1_parses_8 ?_
  refine j_callViw (As := [.int (6 : Int32), .int (7 : Int32)]) B hA (met_X1_word l D g ad w1 (6 : Int32) (7 : Int32)) NT_ok pkX1_word q1078 0 rfl rfl rfl rfl hRm ⟨Nat.le_of_ble_eq_true rfl, Nat.le_of_ble_eq_true rfl⟩ rfl rfl (Nat.le_of_ble_eq_true rfl) ⟨Nat.zero_le _, Nat.zero_le _⟩ eX1_parses_10 ho (fun v2 w3 ho => ?_)
  refine j_istore_n (lv' := fun x4 => [(0, .ref (ad 99)), (1, .int x4)]) B eX1_parses_13 [1, 0] (by decide) (fun _ => rfl) ho (fun x4 ho => ?_)
  refine j_iload_n B eX1_parses_14 1 rfl ?_
  refine j_if_lt B eX1_parses_15 ho (fun _ ho => ?_) (fun _ ho => ?_)
  · refine j_const B eX1_parses_27 ?_
    exact j_zretw B hr rfl hQ eX1_parses_28 ho
  · refine j_aload_n B eX1_parses_18 0 rfl ?_
    refine j_const B eX1_parses_19 ?_
    refine j_callViw (As := [.int (32 : Int32)]) B hA (met_X1_takes l D g ad w3 (32 : Int32)) NT_ok pkX1_takes q1101 0 rfl rfl rfl rfl hRm ⟨Nat.le_of_ble_eq_true rfl, Nat.le_of_ble_eq_true rfl⟩ rfl rfl (Nat.le_of_ble_eq_true rfl) ⟨Nat.zero_le _, Nat.zero_le _⟩ eX1_parses_21 ho (fun v5 w6 ho => ?_)
    refine j_if_ne B eX1_parses_24 ho (fun _ ho => ?_) (fun _ ho => ?_)
    · refine j_aload_n B eX1_parses_29 0 rfl ?_
      refine j_const B eX1_parses_30 ?_
      refine j_const B eX1_parses_31 ?_
      refine j_callViw (As := [.int (0 : Int32), .int (5 : Int32)]) B hA (met_X1_word l D g ad w6 (0 : Int32) (5 : Int32)) NT_ok pkX1_word q1078 0 rfl rfl rfl rfl hRm ⟨Nat.le_of_ble_eq_true rfl, Nat.le_of_ble_eq_true rfl⟩ rfl rfl (Nat.le_of_ble_eq_true rfl) ⟨Nat.zero_le _, Nat.zero_le _⟩ eX1_parses_32 ho (fun v7 w8 ho => ?_)
      refine j_istore_n (lv' := fun x9 => [(0, .ref (ad 99)), (1, .int x4), (2, .int x9)]) B eX1_parses_35 [1, 2, 0] (by decide) (fun _ => rfl) ho (fun x9 ho => ?_)
      refine j_iload_n B eX1_parses_36 2 rfl ?_
      refine j_if_ge B eX1_parses_37 ho (fun _ ho => ?_) (fun _ ho => ?_)
      · refine j_aload_n B eX1_parses_42 0 rfl ?_
        refine gfM_32 B eX1_parses_43 ?_
        refine j_aload_n B eX1_parses_46 0 rfl ?_
        refine gfM_30 B eX1_parses_47 ?_
        refine j_iload_n B eX1_parses_50 1 rfl ?_
        refine j_const B eX1_parses_51 ?_
        refine jn1 (C := fun z10 => XJ p l e R s m args below meth c 0 0 Q A D vwCl (cellsM g ad) 3 w8 61 [(0, .ref (ad 99)), (2, .int x9)] [.int z10, .int (w8.2.1 90 30), .ref (ad 32)]) ho (fun z10 ho => ?_) (fun J11 hJ11 ho => ?_)
        · refine stM_32 B eX1_parses_61 ho (fun w12 ho => ?_)
          refine j_aload_n B eX1_parses_62 0 rfl ?_
          refine gfM_33 B eX1_parses_63 ?_
          refine j_aload_n B eX1_parses_66 0 rfl ?_
          refine gfM_30 B eX1_parses_67 ?_
          refine j_iload_n B eX1_parses_70 1 rfl ?_
          refine stM_33 B eX1_parses_71 ho (fun w13 ho => ?_)
          refine j_aload_n B eX1_parses_72 0 rfl ?_
          refine gfM_34 B eX1_parses_73 ?_
          refine j_aload_n B eX1_parses_76 0 rfl ?_
          refine gfM_30 B eX1_parses_77 ?_
          refine j_const B eX1_parses_80 ?_
          refine stM_34 B eX1_parses_81 ho (fun w14 ho => ?_)
          refine j_aload_n B eX1_parses_82 0 rfl ?_
          refine gfM_36 B eX1_parses_83 ?_
          refine j_aload_n B eX1_parses_86 0 rfl ?_
          refine gfM_29 B eX1_parses_87 ?_
          refine j_icmp_ne B eX1_parses_90 ho (fun _ ho => ?_) (fun _ ho => ?_)
          · refine j_aload_n B eX1_parses_95 0 rfl ?_
            refine j_const B eX1_parses_96 ?_
            refine j_callViw (As := [.int (32 : Int32)]) B hA (met_X1_takes l D g ad w14 (32 : Int32)) NT_ok pkX1_takes q1101 0 rfl rfl rfl rfl hRm ⟨Nat.le_of_ble_eq_true rfl, Nat.le_of_ble_eq_true rfl⟩ rfl rfl (Nat.le_of_ble_eq_true rfl) ⟨Nat.zero_le _, Nat.zero_le _⟩ eX1_parses_98 ho (fun v15 w16 ho => ?_)
            refine j_if_eq B eX1_parses_101 ho (fun _ ho => ?_) (fun _ ho => ?_)
            · refine j_const B eX1_parses_124 ?_
              exact j_zretw B hr rfl hQ eX1_parses_125 ho
            · refine j_aload_n B eX1_parses_104 0 rfl ?_
              refine j_const B eX1_parses_105 ?_
              refine j_const B eX1_parses_107 ?_
              refine j_callViw (As := [.int (15 : Int32), .int (15 : Int32)]) B hA (met_X1_word l D g ad w16 (15 : Int32) (15 : Int32)) NT_ok pkX1_word q1078 0 rfl rfl rfl rfl hRm ⟨Nat.le_of_ble_eq_true rfl, Nat.le_of_ble_eq_true rfl⟩ rfl rfl (Nat.le_of_ble_eq_true rfl) ⟨Nat.zero_le _, Nat.zero_le _⟩ eX1_parses_109 ho (fun v17 w18 ho => ?_)
              refine j_if_lt B eX1_parses_112 ho (fun _ ho => ?_) (fun _ ho => ?_)
              · refine j_const B eX1_parses_124 ?_
                exact j_zretw B hr rfl hQ eX1_parses_125 ho
              · refine j_aload_n B eX1_parses_115 0 rfl ?_
                refine j_const B eX1_parses_116 ?_
                refine j_callViw (As := [.int (32 : Int32)]) B hA (met_X1_takes l D g ad w18 (32 : Int32)) NT_ok pkX1_takes q1101 0 rfl rfl rfl rfl hRm ⟨Nat.le_of_ble_eq_true rfl, Nat.le_of_ble_eq_true rfl⟩ rfl rfl (Nat.le_of_ble_eq_true rfl) ⟨Nat.zero_le _, Nat.zero_le _⟩ eX1_parses_118 ho (fun v19 w20 ho => ?_)
                refine j_if_ne B eX1_parses_121 ho (fun _ ho => ?_) (fun _ ho => ?_)
                · refine j_lsub (lv' := [(0, .ref (ad 99))]) [0] rfl ?_
                  unfold sM_parses_L126 at ho
                  refine fx1 (C := fun w21 => XJ p l e R s m args below meth c 0 0 Q A D vwCl (cellsM g ad) 3 w21 126 [(0, .ref (ad 99))] []) (fun self22 hself22 w21 ho => ?_) FU _ ho
                  refine j_aload_n B eX1_parses_126 0 rfl ?_
                  refine j_const B eX1_parses_127 ?_
                  refine j_aload_n B eX1_parses_129 0 rfl ?_
                  refine gfM_30 B eX1_parses_130 ?_
                  refine j_imul B eX1_parses_133 ?_
                  refine j_const B eX1_parses_134 ?_
                  refine j_aload_n B eX1_parses_135 0 rfl ?_
                  refine gfM_34 B eX1_parses_136 ?_
                  refine j_aload_n B eX1_parses_139 0 rfl ?_
                  refine gfM_30 B eX1_parses_140 ?_
                  refine ldM_34 B eX1_parses_143 ho (fun v23 ho => ?_)
                  refine j_imul B eX1_parses_144 ?_
                  refine j_iadd B eX1_parses_145 ?_
                  refine j_callViw (As := [.int (((12 : Int32) * (w21.2.1 90 30)) + ((4 : Int32) * v23))]) B hA (met_X1_test l D g ad w21 (((12 : Int32) * (w21.2.1 90 30)) + ((4 : Int32) * v23))) NT_ok pkX1_test q1105 0 rfl rfl rfl rfl hRm ⟨Nat.le_of_ble_eq_true rfl, Nat.le_of_ble_eq_true rfl⟩ rfl rfl (Nat.le_of_ble_eq_true rfl) ⟨Nat.zero_le _, Nat.zero_le _⟩ eX1_parses_146 ho (fun v24 w25 ho => ?_)
                  refine j_if_ne B eX1_parses_149 ho (fun _ ho => ?_) (fun _ ho => ?_)
                  · refine j_aload_n B eX1_parses_154 0 rfl ?_
                    refine gfM_34 B eX1_parses_155 ?_
                    refine j_aload_n B eX1_parses_158 0 rfl ?_
                    refine gfM_30 B eX1_parses_159 ?_
                    refine j_dup2 B eX1_parses_162 rfl rfl ?_
                    refine ldM_34 B eX1_parses_163 ho (fun v26 ho => ?_)
                    refine j_const B eX1_parses_164 ?_
                    refine j_iadd B eX1_parses_165 ?_
                    refine stM_34 B eX1_parses_166 ho (fun w27 ho => ?_)
                    refine j_aload_n B eX1_parses_167 0 rfl ?_
                    refine gfM_36 B eX1_parses_168 ?_
                    refine j_aload_n B eX1_parses_171 0 rfl ?_
                    refine gfM_29 B eX1_parses_172 ?_
                    refine j_icmp_ne B eX1_parses_175 ho (fun _ ho => ?_) (fun _ ho => ?_)
                    · refine j_aload_n B eX1_parses_180 0 rfl ?_
                      refine gfM_34 B eX1_parses_181 ?_
                      refine j_aload_n B eX1_parses_184 0 rfl ?_
                      refine gfM_30 B eX1_parses_185 ?_
                      refine ldM_34 B eX1_parses_188 ho (fun v28 ho => ?_)
                      refine j_const B eX1_parses_189 ?_
                      refine j_icmp_eq B eX1_parses_190 ho (fun _ ho => ?_) (fun _ ho => ?_)
                      · refine j_const B eX1_parses_202 ?_
                        exact j_zretw B hr rfl hQ eX1_parses_203 ho
                      · refine j_aload_n B eX1_parses_193 0 rfl ?_
                        refine j_const B eX1_parses_194 ?_
                        refine j_callViw (As := [.int (38 : Int32)]) B hA (met_X1_takes l D g ad w27 (38 : Int32)) NT_ok pkX1_takes q1101 0 rfl rfl rfl rfl hRm ⟨Nat.le_of_ble_eq_true rfl, Nat.le_of_ble_eq_true rfl⟩ rfl rfl (Nat.le_of_ble_eq_true rfl) ⟨Nat.zero_le _, Nat.zero_le _⟩ eX1_parses_196 ho (fun v29 w30 ho => ?_)
                        refine j_if_ne B eX1_parses_199 ho (fun _ ho => ?_) (fun _ ho => ?_)
                        · exact hself22 _ ho
                        · refine j_const B eX1_parses_202 ?_
                          exact j_zretw B hr rfl hQ eX1_parses_203 ho
                    · refine j_const B eX1_parses_178 ?_
                      exact j_zretw B hr rfl hQ eX1_parses_179 ho
                  · refine j_const B eX1_parses_152 ?_
                    exact j_zretw B hr rfl hQ eX1_parses_153 ho
                · refine j_const B eX1_parses_124 ?_
                  exact j_zretw B hr rfl hQ eX1_parses_125 ho
          · refine j_const B eX1_parses_93 ?_
            exact j_zretw B hr rfl hQ eX1_parses_94 ho
        · refine j_icmp_ne B eX1_parses_53 ho (fun _ ho => ?_) (fun _ ho => ?_)
          · refine j_const B eX1_parses_60 ?_
            refine j_lsub (lv' := [(0, .ref (ad 99)), (2, .int x9)]) [0, 2] rfl ?_
            exact hJ11 _ ho
          · refine j_const B eX1_parses_56 ?_
            refine j_goto B eX1_parses_57 ?_
            refine j_lsub (lv' := [(0, .ref (ad 99)), (2, .int x9)]) [0, 2] rfl ?_
            exact hJ11 _ ho
      · refine j_const B eX1_parses_40 ?_
        exact j_zretw B hr rfl hQ eX1_parses_41 ho
    · refine j_const B eX1_parses_27 ?_
      exact j_zretw B hr rfl hQ eX1_parses_28 ho
def sM_rule (w : Wd)  : Option (Int32 × Wd) :=
  if (w.2.1 90 30) = (10 : Int32) then (some ((-4 : Int32), w)) else (bd2 (sM_parses w) fun v1 w2 => nm v1 fun x3 => nm (stG w2 90 29 (0 : Int32)) fun w4 => if x3 = 0 then (some (((-10 : Int32) - (w4.2.1 90 36)), w4)) else (nm (stG w4 90 30 ((w4.2.1 90 30) + (1 : Int32))) fun w5 => some (((w5.2.1 90 30) - (1 : Int32)), w5)))
abbrev rmX1_rule : Room := { frames := 7, cells := 0, slots := 0, locals := 172 }
theorem pkX1_rule : PkV yX1_rule RX1 cX1_rule 2 (some .int) 0 := ⟨q1071, q1072, q58, q1073, by decide +kernel⟩
set_option maxHeartbeats 4000000 in
theorem met_X1_rule (l : Launch) (D : va_G) (g : Nat → ClassId) (ad : Nat → Nat) (w : Wd)  (sz : Nat) (r : Int32) (w' : Wd) (ho : sM_rule w = some (r, w')) : Met l yX1_rule (ws_ yX1_rule cX1_rule 2 (some .int)) rmX1_rule (va_Pc [.ref (ad 99)] (MPre D vwCl (tysG g) (cellsM g ad w) NT sz)) (QcI D vwCl (tysG g) (cellsM g ad w') r (va_A (cellsM g ad w) sz)) 0 0 (va_A (cellsM g ad w) sz) := by
  refine met_XJ (cw := cellsM g ad) (w := w) (cc := cX1_rule) (lv := [(0, .ref (ad 99))]) pnX1 _ (Nat.le_of_ble_eq_true rfl) rfl ?_
  intro p e s m args below meth c R Q A B hN hr hsz hA hmm hRm hQ hAe
  unfold sM_rule at ho
  refine j_aload_n B eX1_rule_0 0 rfl ?_
  refine gfM_30 B eX1_rule_1 ?_
  refine j_const B eX1_rule_4 ?_
  refine j_icmp_ne B eX1_rule_6 ho (fun _ ho => ?_) (fun _ ho => ?_)
  · refine j_aload_n B eX1_rule_12 0 rfl ?_
    refine j_callViw (As := []) B hA (met_X1_parses l D g ad w) NT_ok pkX1_parses q1074 0 rfl rfl rfl rfl hRm ⟨Nat.le_of_ble_eq_true rfl, Nat.le_of_ble_eq_true rfl⟩ rfl rfl (Nat.le_of_ble_eq_true rfl) ⟨Nat.zero_le _, Nat.zero_le _⟩ eX1_rule_13 ho (fun v1 w2 ho => ?_)
    refine j_istore_n (lv' := fun x3 => [(0, .ref (ad 99)), (1, .int x3)]) B eX1_rule_16 [1, 0] (by decide) (fun _ => rfl) ho (fun x3 ho => ?_)
    refine j_aload_n B eX1_rule_17 0 rfl ?_
    refine j_const B eX1_rule_18 ?_
    refine pfM_29 B eX1_rule_19 ho (fun w4 ho => ?_)
    refine j_iload_n B eX1_rule_22 1 rfl ?_
    refine j_if_ne B eX1_rule_23 ho (fun _ ho => ?_) (fun _ ho => ?_)
    · refine j_aload_n B eX1_rule_34 0 rfl ?_
      refine j_dup B eX1_rule_35 rfl ?_
      refine gfM_30 B eX1_rule_36 ?_
      refine j_const B eX1_rule_39 ?_
      refine j_iadd B eX1_rule_40 ?_
      refine pfM_30 B eX1_rule_41 ho (fun w5 ho => ?_)
      refine j_aload_n B eX1_rule_44 0 rfl ?_
      refine gfM_30 B eX1_rule_45 ?_
      refine j_const B eX1_rule_48 ?_
      refine j_isub B eX1_rule_49 ?_
      exact j_iretw B hr hQ eX1_rule_50 ho
    · refine j_const B eX1_rule_26 ?_
      refine j_aload_n B eX1_rule_28 0 rfl ?_
      refine gfM_36 B eX1_rule_29 ?_
      refine j_isub B eX1_rule_32 ?_
      exact j_iretw B hr hQ eX1_rule_33 ho
  · refine j_const B eX1_rule_9 ?_
    exact j_iretw B hr hQ eX1_rule_11 ho
def sM_field_L27 (a2 : Int32) (w : Wd) (J6 : Int32 → Option (Int32)) : Int32 → Int32 → Option (Int32) :=
  fx (fun _ _ => none) (fun self13 x11 x12 =>
    if (w.2.1 90 10) ≤ x12 then (J6 x11) else (rd (inb x12 16) (w.2.1 2 (Int32.toNatClampNeg x12)) fun v14 => jn (fun z15 => nm z15 fun x17 => nm (x12 + (1 : Int32)) fun x18 => self13 x17 x18) fun J16 => if v14 = a2 then (rd (inb x12 16) (w.2.1 0 (Int32.toNatClampNeg x12)) fun v19 => if v19 = (4 : Int32) then (J16 (1 : Int32)) else (J16 x11)) else (J16 x11))) FU
def sM_field (w : Wd) (a1 : Int32) (a2 : Int32) (a3 : Int32) : Option (Int32) :=
  nm (irm (w.2.1 90 31) (30 : Int32)) fun x1 => nm (irm ((w.2.1 90 31) / (30 : Int32)) (12 : Int32)) fun x2 => nm (0 : Int32) fun x3 => nm (0 : Int32) fun x4 => jn (fun x5 => if a1 = (0 : Int32) then (rd (inb x1 30) (w.2.1 26 (Int32.toNatClampNeg x1)) fun v7 => some v7) else (if a1 = (1 : Int32) then (rd (inb x1 30) (w.2.1 27 (Int32.toNatClampNeg x1)) fun v8 => some v8) else (if a1 = (2 : Int32) then (some a3) else (if a1 = (3 : Int32) then (some x2) else (if a1 = (4 : Int32) then (bd (sM_seatsOf w a2) fun v9 => some v9) else (if a1 = (5 : Int32) then (some x5) else (if (2 : Int32) ≤ x2 then (some (0 : Int32)) else (rd (inb x1 30) (w.2.1 26 (Int32.toNatClampNeg x1)) fun v10 => if (10 : Int32) ≤ v10 then (some (0 : Int32)) else (some (1 : Int32)))))))))) fun J6 => sM_field_L27 a2 w J6 x3 x4
abbrev rmX1_field : Room := { frames := 1, cells := 0, slots := 0, locals := 22 }
theorem pkX1_field : PkV yX1_field RX1 cX1_field 8 (some .int) 3 := ⟨q1126, qs51, q58, q1127, by decide +kernel⟩
set_option maxHeartbeats 4000000 in
theorem met_X1_field (l : Launch) (D : va_G) (g : Nat → ClassId) (ad : Nat → Nat) (w : Wd) (a1 : Int32) (a2 : Int32) (a3 : Int32) (sz : Nat) (r : Int32) (ho : sM_field w a1 a2 a3 = some r) : Met l yX1_field (ws_ yX1_field cX1_field 8 (some .int)) rmX1_field (va_Pc [.ref (ad 99), .int a1, .int a2, .int a3] (MPre D vwCl (tysG g) (cellsM g ad w) NT sz)) (QcI D vwCl (tysG g) (cellsM g ad w) r (va_A (cellsM g ad w) sz)) 0 0 (va_A (cellsM g ad w) sz) := by
  refine met_XJ (cw := cellsM g ad) (w := w) (cc := cX1_field) (lv := [(0, .ref (ad 99)), (1, .int a1), (2, .int a2), (3, .int a3)]) pnX1 _ (Nat.le_of_ble_eq_true rfl) rfl ?_
  intro p e s m args below meth c R Q A B hN hr hsz hA hmm hRm hQ hAe
  unfold sM_field at ho
  refine j_aload_n B eX1_field_0 0 rfl ?_
  refine gfM_31 B eX1_field_1 ?_
  refine j_const B eX1_field_4 ?_
  refine j_irm B eX1_field_6 (by decide) ?_
  refine j_istore (lv' := fun x1 => [(0, .ref (ad 99)), (1, .int a1), (2, .int a2), (3, .int a3), (4, .int x1)]) B eX1_field_7 [1, 2, 3, 4, 0] (by decide) (fun _ => rfl) ho (fun x1 ho => ?_)
  refine j_aload_n B eX1_field_9 0 rfl ?_
  refine gfM_31 B eX1_field_10 ?_
  refine j_const B eX1_field_13 ?_
  refine j_idiv B eX1_field_15 (by decide) ?_
  refine j_const B eX1_field_16 ?_
  refine j_irm B eX1_field_18 (by decide) ?_
  refine j_istore (lv' := fun x2 => [(0, .ref (ad 99)), (1, .int a1), (2, .int a2), (3, .int a3), (4, .int x1), (5, .int x2)]) B eX1_field_19 [1, 2, 3, 4, 5, 0] (by decide) (fun _ => rfl) ho (fun x2 ho => ?_)
  refine j_const B eX1_field_21 ?_
  refine j_istore (lv' := fun x3 => [(0, .ref (ad 99)), (1, .int a1), (2, .int a2), (3, .int a3), (4, .int x1), (5, .int x2), (6, .int x3)]) B eX1_field_22 [1, 2, 3, 4, 5, 6, 0] (by decide) (fun _ => rfl) ho (fun x3 ho => ?_)
  refine j_const B eX1_field_24 ?_
  refine j_istore (lv' := fun x4 => [(0, .ref (ad 99)), (1, .int a1), (2, .int a2), (3, .int a3), (4, .int x1), (5, .int x2), (6, .int x3), (7, .int x4)]) B eX1_field_25 [1, 2, 3, 4, 5, 6, 7, 0] (by decide) (fun _ => rfl) ho (fun x4 ho => ?_)
  refine jn1 (C := fun x5 => XJ p l e R s m args below meth c 0 0 Q A D vwCl (cellsM g ad) 8 w 72 [(0, .ref (ad 99)), (1, .int a1), (2, .int a2), (3, .int a3), (4, .int x1), (5, .int x2), (6, .int x5)] []) ho (fun x5 ho => ?_) (fun J6 hJ6 ho => ?_)
  · refine j_iload_n B eX1_field_72 1 rfl ?_
    rcases sw_e ho with ⟨hs0, ho⟩ | ⟨hs0, ho⟩
    · refine j_tswIn (tgt := 112) B eX1_field_73 0 hs0 (by decide) (by decide) rfl (by decide) ?_
      refine j_aload_n B eX1_field_112 0 rfl ?_
      refine gfM_26 B eX1_field_113 ?_
      refine j_iload B eX1_field_116 4 rfl ?_
      refine ldM_26 B eX1_field_118 ho (fun v7 ho => ?_)
      exact j_iret B hr hQ eX1_field_119 ho
    · rcases sw_e ho with ⟨hs1, ho⟩ | ⟨hs1, ho⟩
      · refine j_tswIn (tgt := 120) B eX1_field_73 1 hs1 (by decide) (by decide) rfl (by decide) ?_
        refine j_aload_n B eX1_field_120 0 rfl ?_
        refine gfM_27 B eX1_field_121 ?_
        refine j_iload B eX1_field_124 4 rfl ?_
        refine ldM_27 B eX1_field_126 ho (fun v8 ho => ?_)
        exact j_iret B hr hQ eX1_field_127 ho
      · rcases sw_e ho with ⟨hs2, ho⟩ | ⟨hs2, ho⟩
        · refine j_tswIn (tgt := 128) B eX1_field_73 2 hs2 (by decide) (by decide) rfl (by decide) ?_
          refine j_iload_n B eX1_field_128 3 rfl ?_
          exact j_iret B hr hQ eX1_field_129 ho
        · rcases sw_e ho with ⟨hs3, ho⟩ | ⟨hs3, ho⟩
          · refine j_tswIn (tgt := 130) B eX1_field_73 3 hs3 (by decide) (by decide) rfl (by decide) ?_
            refine j_iload B eX1_field_130 5 rfl ?_
            exact j_iret B hr hQ eX1_field_132 ho
          · rcases sw_e ho with ⟨hs4, ho⟩ | ⟨hs4, ho⟩
            · refine j_tswIn (tgt := 133) B eX1_field_73 4 hs4 (by decide) (by decide) rfl (by decide) ?_
              refine j_aload_n B eX1_field_133 0 rfl ?_
              refine j_iload_n B eX1_field_134 2 rfl ?_
              refine j_callVi (As := [.int a2]) B hA (met_X1_seatsOf l D g ad w a2) NT_ok pkX1_seatsOf q955 0 rfl rfl rfl rfl hRm ⟨Nat.le_of_ble_eq_true rfl, Nat.le_of_ble_eq_true rfl⟩ rfl rfl (Nat.le_of_ble_eq_true rfl) ⟨Nat.zero_le _, Nat.zero_le _⟩ eX1_field_135 ho (fun v9 ho => ?_)
              exact j_iret B hr hQ eX1_field_138 ho
            · rcases sw_e ho with ⟨hs5, ho⟩ | ⟨hs5, ho⟩
              · refine j_tswIn (tgt := 139) B eX1_field_73 5 hs5 (by decide) (by decide) rfl (by decide) ?_
                refine j_iload B eX1_field_139 6 rfl ?_
                exact j_iret B hr hQ eX1_field_141 ho
              · refine j_tswOut (tgt := 142) B eX1_field_73 (by have a0 := lv_neT hs0 (a := 0) (by decide); have a1 := lv_neT hs1 (a := 1) (by decide); have a2 := lv_neT hs2 (a := 2) (by decide); have a3 := lv_neT hs3 (a := 3) (by decide); have a4 := lv_neT hs4 (a := 4) (by decide); have a5 := lv_neT hs5 (a := 5) (by decide); omega) (by decide) ?_
                refine j_iload B eX1_field_142 5 rfl ?_
                refine j_const B eX1_field_144 ?_
                refine j_icmp_ge B eX1_field_145 ho (fun _ ho => ?_) (fun _ ho => ?_)
                · refine j_const B eX1_field_164 ?_
                  exact j_iret B hr hQ eX1_field_165 ho
                · refine j_aload_n B eX1_field_148 0 rfl ?_
                  refine gfM_26 B eX1_field_149 ?_
                  refine j_iload B eX1_field_152 4 rfl ?_
                  refine ldM_26 B eX1_field_154 ho (fun v10 ho => ?_)
                  refine j_const B eX1_field_155 ?_
                  refine j_icmp_ge B eX1_field_157 ho (fun _ ho => ?_) (fun _ ho => ?_)
                  · refine j_const B eX1_field_164 ?_
                    exact j_iret B hr hQ eX1_field_165 ho
                  · refine j_const B eX1_field_160 ?_
                    refine j_goto B eX1_field_161 ?_
                    exact j_iret B hr hQ eX1_field_165 ho
  · unfold sM_field_L27 at ho
    refine fx2 (C := fun x11 x12 => XJ p l e R s m args below meth c 0 0 Q A D vwCl (cellsM g ad) 8 w 27 [(0, .ref (ad 99)), (1, .int a1), (2, .int a2), (3, .int a3), (4, .int x1), (5, .int x2), (6, .int x11), (7, .int x12)] []) (fun self13 hself13 x11 x12 ho => ?_) FU _ _ ho
    refine j_iload B eX1_field_27 7 rfl ?_
    refine j_aload_n B eX1_field_29 0 rfl ?_
    refine gfM_10 B eX1_field_30 ?_
    refine j_icmp_ge B eX1_field_33 ho (fun _ ho => ?_) (fun _ ho => ?_)
    · refine j_lsub (lv' := [(0, .ref (ad 99)), (1, .int a1), (2, .int a2), (3, .int a3), (4, .int x1), (5, .int x2), (6, .int x11)]) [0, 1, 2, 3, 4, 5, 6] rfl ?_
      exact hJ6 _ ho
    · refine j_aload_n B eX1_field_36 0 rfl ?_
      refine gfM_2 B eX1_field_37 ?_
      refine j_iload B eX1_field_40 7 rfl ?_
      refine ldM_2 B eX1_field_42 ho (fun v14 ho => ?_)
      refine j_iload_n B eX1_field_43 2 rfl ?_
      refine jn1 (C := fun z15 => XJ p l e R s m args below meth c 0 0 Q A D vwCl (cellsM g ad) 8 w 64 [(0, .ref (ad 99)), (1, .int a1), (2, .int a2), (3, .int a3), (4, .int x1), (5, .int x2), (7, .int x12)] [.int z15]) ho (fun z15 ho => ?_) (fun J16 hJ16 ho => ?_)
      · refine j_istore (lv' := fun x17 => [(0, .ref (ad 99)), (1, .int a1), (2, .int a2), (3, .int a3), (4, .int x1), (5, .int x2), (6, .int x17), (7, .int x12)]) B eX1_field_64 [1, 2, 3, 4, 5, 6, 0, 7] (by decide) (fun _ => rfl) ho (fun x17 ho => ?_)
        refine j_iinc (d := 1) (lv' := fun x18 => [(0, .ref (ad 99)), (1, .int a1), (2, .int a2), (3, .int a3), (4, .int x1), (5, .int x2), (6, .int x17), (7, .int x18)]) B eX1_field_66 7 rfl (by decide) [1, 2, 3, 4, 5, 6, 7, 0] (by decide) (fun _ => rfl) ho (fun x18 ho => ?_)
        refine j_goto B eX1_field_69 ?_
        exact hself13 _ _ ho
      · refine j_icmp_ne B eX1_field_44 ho (fun _ ho => ?_) (fun _ ho => ?_)
        · refine j_iload B eX1_field_62 6 rfl ?_
          refine j_lsub (lv' := [(0, .ref (ad 99)), (1, .int a1), (2, .int a2), (3, .int a3), (4, .int x1), (5, .int x2), (7, .int x12)]) [0, 1, 2, 3, 4, 5, 7] rfl ?_
          exact hJ16 _ ho
        · refine j_aload_n B eX1_field_47 0 rfl ?_
          refine gfM_0 B eX1_field_48 ?_
          refine j_iload B eX1_field_51 7 rfl ?_
          refine ldM_0 B eX1_field_53 ho (fun v19 ho => ?_)
          refine j_const B eX1_field_54 ?_
          refine j_icmp_ne B eX1_field_55 ho (fun _ ho => ?_) (fun _ ho => ?_)
          · refine j_iload B eX1_field_62 6 rfl ?_
            refine j_lsub (lv' := [(0, .ref (ad 99)), (1, .int a1), (2, .int a2), (3, .int a3), (4, .int x1), (5, .int x2), (7, .int x12)]) [0, 1, 2, 3, 4, 5, 7] rfl ?_
            exact hJ16 _ ho
          · refine j_const B eX1_field_58 ?_
            refine j_goto B eX1_field_59 ?_
            refine j_lsub (lv' := [(0, .ref (ad 99)), (1, .int a1), (2, .int a2), (3, .int a3), (4, .int x1), (5, .int x2), (7, .int x12)]) [0, 1, 2, 3, 4, 5, 7] rfl ?_
            exact hJ16 _ ho
def sM_isSo (w : Wd) (a1 : Int32) (a2 : Int32) (a3 : Int32) : Option (Int32) :=
  rd (inb (a1 + (1 : Int32)) 120) (w.2.1 35 (Int32.toNatClampNeg (a1 + (1 : Int32)))) fun v1 => bd (sM_field w v1 a2 a3) fun v2 => nm v2 fun x3 => rd (inb (a1 + (2 : Int32)) 120) (w.2.1 35 (Int32.toNatClampNeg (a1 + (2 : Int32)))) fun v4 => jn (fun z5 => nm z5 fun x7 => rd (inb a1 120) (w.2.1 35 (Int32.toNatClampNeg a1)) fun v8 => jn (fun z9 => if x7 = z9 then (some (0 : Int32)) else (some (1 : Int32))) fun J10 => if v8 = (1 : Int32) then (J10 (1 : Int32)) else (J10 (0 : Int32))) fun J6 => if v4 = (61 : Int32) then (rd (inb (a1 + (3 : Int32)) 120) (w.2.1 35 (Int32.toNatClampNeg (a1 + (3 : Int32)))) fun v14 => if x3 = v14 then (J6 (1 : Int32)) else (J6 (0 : Int32))) else (rd (inb (a1 + (2 : Int32)) 120) (w.2.1 35 (Int32.toNatClampNeg (a1 + (2 : Int32)))) fun v11 => if v11 = (60 : Int32) then (rd (inb (a1 + (3 : Int32)) 120) (w.2.1 35 (Int32.toNatClampNeg (a1 + (3 : Int32)))) fun v13 => if v13 ≤ x3 then (J6 (0 : Int32)) else (J6 (1 : Int32))) else (rd (inb (a1 + (3 : Int32)) 120) (w.2.1 35 (Int32.toNatClampNeg (a1 + (3 : Int32)))) fun v12 => if x3 ≤ v12 then (J6 (0 : Int32)) else (J6 (1 : Int32))))
abbrev rmX1_isSo : Room := { frames := 2, cells := 0, slots := 0, locals := 49 }
theorem pkX1_isSo : PkV yX1_isSo RX1 cX1_isSo 6 (some .boolean) 3 := ⟨q1122, qs50, q58, q1123, by decide +kernel⟩
set_option maxHeartbeats 4000000 in
theorem met_X1_isSo (l : Launch) (D : va_G) (g : Nat → ClassId) (ad : Nat → Nat) (w : Wd) (a1 : Int32) (a2 : Int32) (a3 : Int32) (sz : Nat) (r : Int32) (ho : sM_isSo w a1 a2 a3 = some r) : Met l yX1_isSo (ws_ yX1_isSo cX1_isSo 6 (some .boolean)) rmX1_isSo (va_Pc [.ref (ad 99), .int a1, .int a2, .int a3] (MPre D vwCl (tysG g) (cellsM g ad w) NT sz)) (QcI D vwCl (tysG g) (cellsM g ad w) r (va_A (cellsM g ad w) sz)) 0 0 (va_A (cellsM g ad w) sz) := by
  refine met_XJ (cw := cellsM g ad) (w := w) (cc := cX1_isSo) (lv := [(0, .ref (ad 99)), (1, .int a1), (2, .int a2), (3, .int a3)]) pnX1 _ (Nat.le_of_ble_eq_true rfl) rfl ?_
  intro p e s m args below meth c R Q A B hN hr hsz hA hmm hRm hQ hAe
  unfold sM_isSo at ho
  refine j_aload_n B eX1_isSo_0 0 rfl ?_
  refine j_aload_n B eX1_isSo_1 0 rfl ?_
  refine gfM_35 B eX1_isSo_2 ?_
  refine j_iload_n B eX1_isSo_5 1 rfl ?_
  refine j_const B eX1_isSo_6 ?_
  refine j_iadd B eX1_isSo_7 ?_
  refine ldM_35 B eX1_isSo_8 ho (fun v1 ho => ?_)
  refine j_iload_n B eX1_isSo_9 2 rfl ?_
  refine j_iload_n B eX1_isSo_10 3 rfl ?_
  refine j_callVi (As := [.int v1, .int a2, .int a3]) B hA (met_X1_field l D g ad w v1 a2 a3) NT_ok pkX1_field q1124 0 rfl rfl rfl rfl hRm ⟨Nat.le_of_ble_eq_true rfl, Nat.le_of_ble_eq_true rfl⟩ rfl rfl (Nat.le_of_ble_eq_true rfl) ⟨Nat.zero_le _, Nat.zero_le _⟩ eX1_isSo_11 ho (fun v2 ho => ?_)
  refine j_istore (lv' := fun x3 => [(0, .ref (ad 99)), (1, .int a1), (4, .int x3)]) B eX1_isSo_14 [1, 2, 0] (by decide) (fun _ => rfl) ho (fun x3 ho => ?_)
  refine j_aload_n B eX1_isSo_16 0 rfl ?_
  refine gfM_35 B eX1_isSo_17 ?_
  refine j_iload_n B eX1_isSo_20 1 rfl ?_
  refine j_const B eX1_isSo_21 ?_
  refine j_iadd B eX1_isSo_22 ?_
  refine ldM_35 B eX1_isSo_23 ho (fun v4 ho => ?_)
  refine j_const B eX1_isSo_24 ?_
  refine jn1 (C := fun z5 => XJ p l e R s m args below meth c 0 0 Q A D vwCl (cellsM g ad) 6 w 102 [(0, .ref (ad 99)), (1, .int a1)] [.int z5]) ho (fun z5 ho => ?_) (fun J6 hJ6 ho => ?_)
  · refine j_istore (lv' := fun x7 => [(0, .ref (ad 99)), (1, .int a1), (5, .int x7)]) B eX1_isSo_102 [1, 2, 0] (by decide) (fun _ => rfl) ho (fun x7 ho => ?_)
    refine j_iload B eX1_isSo_104 2 rfl ?_
    refine j_aload_n B eX1_isSo_106 0 rfl ?_
    refine gfM_35 B eX1_isSo_107 ?_
    refine j_iload_n B eX1_isSo_110 1 rfl ?_
    refine ldM_35 B eX1_isSo_111 ho (fun v8 ho => ?_)
    refine j_const B eX1_isSo_112 ?_
    refine jn1 (C := fun z9 => XJ p l e R s m args below meth c 0 0 Q A D vwCl (cellsM g ad) 6 w 121 [] [.int z9, .int x7]) ho (fun z9 ho => ?_) (fun J10 hJ10 ho => ?_)
    · refine j_icmp_eq B eX1_isSo_121 ho (fun _ ho => ?_) (fun _ ho => ?_)
      · refine j_const B eX1_isSo_128 ?_
        exact j_zret B hr rfl hQ eX1_isSo_129 ho
      · refine j_const B eX1_isSo_124 ?_
        refine j_goto B eX1_isSo_125 ?_
        exact j_zret B hr rfl hQ eX1_isSo_129 ho
    · refine j_icmp_ne B eX1_isSo_113 ho (fun _ ho => ?_) (fun _ ho => ?_)
      · refine j_const B eX1_isSo_120 ?_
        refine j_lsub (lv' := []) [] rfl ?_
        exact hJ10 _ ho
      · refine j_const B eX1_isSo_116 ?_
        refine j_goto B eX1_isSo_117 ?_
        refine j_lsub (lv' := []) [] rfl ?_
        exact hJ10 _ ho
  · refine j_icmp_ne B eX1_isSo_26 ho (fun _ ho => ?_) (fun _ ho => ?_)
    · refine j_aload_n B eX1_isSo_50 0 rfl ?_
      refine gfM_35 B eX1_isSo_51 ?_
      refine j_iload_n B eX1_isSo_54 1 rfl ?_
      refine j_const B eX1_isSo_55 ?_
      refine j_iadd B eX1_isSo_56 ?_
      refine ldM_35 B eX1_isSo_57 ho (fun v11 ho => ?_)
      refine j_const B eX1_isSo_58 ?_
      refine j_icmp_ne B eX1_isSo_60 ho (fun _ ho => ?_) (fun _ ho => ?_)
      · refine j_iload B eX1_isSo_84 2 rfl ?_
        refine j_aload_n B eX1_isSo_86 0 rfl ?_
        refine gfM_35 B eX1_isSo_87 ?_
        refine j_iload_n B eX1_isSo_90 1 rfl ?_
        refine j_const B eX1_isSo_91 ?_
        refine j_iadd B eX1_isSo_92 ?_
        refine ldM_35 B eX1_isSo_93 ho (fun v12 ho => ?_)
        refine j_icmp_le B eX1_isSo_94 ho (fun _ ho => ?_) (fun _ ho => ?_)
        · refine j_const B eX1_isSo_101 ?_
          refine j_lsub (lv' := [(0, .ref (ad 99)), (1, .int a1)]) [0, 1] rfl ?_
          exact hJ6 _ ho
        · refine j_const B eX1_isSo_97 ?_
          refine j_goto B eX1_isSo_98 ?_
          refine j_lsub (lv' := [(0, .ref (ad 99)), (1, .int a1)]) [0, 1] rfl ?_
          exact hJ6 _ ho
      · refine j_iload B eX1_isSo_63 2 rfl ?_
        refine j_aload_n B eX1_isSo_65 0 rfl ?_
        refine gfM_35 B eX1_isSo_66 ?_
        refine j_iload_n B eX1_isSo_69 1 rfl ?_
        refine j_const B eX1_isSo_70 ?_
        refine j_iadd B eX1_isSo_71 ?_
        refine ldM_35 B eX1_isSo_72 ho (fun v13 ho => ?_)
        refine j_icmp_ge B eX1_isSo_73 ho (fun _ ho => ?_) (fun _ ho => ?_)
        · refine j_const B eX1_isSo_80 ?_
          refine j_goto B eX1_isSo_81 ?_
          refine j_lsub (lv' := [(0, .ref (ad 99)), (1, .int a1)]) [0, 1] rfl ?_
          exact hJ6 _ ho
        · refine j_const B eX1_isSo_76 ?_
          refine j_goto B eX1_isSo_77 ?_
          refine j_lsub (lv' := [(0, .ref (ad 99)), (1, .int a1)]) [0, 1] rfl ?_
          exact hJ6 _ ho
    · refine j_iload B eX1_isSo_29 2 rfl ?_
      refine j_aload_n B eX1_isSo_31 0 rfl ?_
      refine gfM_35 B eX1_isSo_32 ?_
      refine j_iload_n B eX1_isSo_35 1 rfl ?_
      refine j_const B eX1_isSo_36 ?_
      refine j_iadd B eX1_isSo_37 ?_
      refine ldM_35 B eX1_isSo_38 ho (fun v14 ho => ?_)
      refine j_icmp_ne B eX1_isSo_39 ho (fun _ ho => ?_) (fun _ ho => ?_)
      · refine j_const B eX1_isSo_46 ?_
        refine j_goto B eX1_isSo_47 ?_
        refine j_lsub (lv' := [(0, .ref (ad 99)), (1, .int a1)]) [0, 1] rfl ?_
        exact hJ6 _ ho
      · refine j_const B eX1_isSo_42 ?_
        refine j_goto B eX1_isSo_43 ?_
        refine j_lsub (lv' := [(0, .ref (ad 99)), (1, .int a1)]) [0, 1] rfl ?_
        exact hJ6 _ ho
def sM_asked_L51 (a1 : Int32) (a2 : Int32) (w : Wd) (x4 : Int32) (J12 : Int32 → Option (Int32)) : Int32 → Int32 → Option (Int32) :=
  fx (fun _ _ => none) (fun self19 x17 x18 =>
    rd (inb x4 10) (w.2.1 34 (Int32.toNatClampNeg x4)) fun v20 => if v20 ≤ x18 then (J12 x17) else (jn (fun z21 => nm z21 fun x23 => nm (x18 + (1 : Int32)) fun x24 => self19 x23 x24) fun J22 => if x17 = 0 then (J22 (0 : Int32)) else (bd (sM_isSo w (((12 : Int32) * x4) + ((4 : Int32) * x18)) a1 a2) fun v25 => if v25 = 0 then (J22 (0 : Int32)) else (J22 (1 : Int32))))) FU
def sM_asked_L5 (a1 : Int32) (a2 : Int32) (w : Wd) : Int32 → Int32 → Option (Int32) :=
  fx (fun _ _ => none) (fun self5 x3 x4 =>
    if (w.2.1 90 30) ≤ x4 then (some x3) else (rd (inb x4 10) (w.2.1 33 (Int32.toNatClampNeg x4)) fun v6 => jn (fun z7 => nm z7 fun x9 => nm (0 : Int32) fun x10 => jn (fun x11 => jn (fun z13 => nm z13 fun x15 => nm (x4 + (1 : Int32)) fun x16 => self5 x15 x16) fun J14 => if x11 = 0 then (J14 x3) else (J14 x4)) fun J12 => sM_asked_L51 a1 a2 w x4 J12 x9 x10) fun J8 => if v6 = (5 : Int32) then (J8 (1 : Int32)) else (rd (inb x4 10) (w.2.1 33 (Int32.toNatClampNeg x4)) fun v26 => rd (inb a1 8) (w.2.1 6 (Int32.toNatClampNeg a1)) fun v27 => if v26 = v27 then (J8 (1 : Int32)) else (J8 (0 : Int32))))) FU
def sM_asked (w : Wd) (a1 : Int32) (a2 : Int32) : Option (Int32) :=
  nm (-1 : Int32) fun x1 => nm (0 : Int32) fun x2 => sM_asked_L5 a1 a2 w x1 x2
abbrev rmX1_asked : Room := { frames := 3, cells := 0, slots := 0, locals := 74 }
theorem pkX1_asked : PkV yX1_asked RX1 cX1_asked 7 (some .int) 2 := ⟨q1118, qs49, q58, q1119, by decide +kernel⟩
set_option maxHeartbeats 4000000 in
theorem met_X1_asked (l : Launch) (D : va_G) (g : Nat → ClassId) (ad : Nat → Nat) (w : Wd) (a1 : Int32) (a2 : Int32) (sz : Nat) (r : Int32) (ho : sM_asked w a1 a2 = some r) : Met l yX1_asked (ws_ yX1_asked cX1_asked 7 (some .int)) rmX1_asked (va_Pc [.ref (ad 99), .int a1, .int a2] (MPre D vwCl (tysG g) (cellsM g ad w) NT sz)) (QcI D vwCl (tysG g) (cellsM g ad w) r (va_A (cellsM g ad w) sz)) 0 0 (va_A (cellsM g ad w) sz) := by
  refine met_XJ (cw := cellsM g ad) (w := w) (cc := cX1_asked) (lv := [(0, .ref (ad 99)), (1, .int a1), (2, .int a2)]) pnX1 _ (Nat.le_of_ble_eq_true rfl) rfl ?_
  intro p e s m args below meth c R Q A B hN hr hsz hA hmm hRm hQ hAe
  unfold sM_asked at ho
  refine j_const B eX1_asked_0 ?_
  refine j_istore_n (lv' := fun x1 => [(0, .ref (ad 99)), (1, .int a1), (2, .int a2), (3, .int x1)]) B eX1_asked_1 [1, 2, 3, 0] (by decide) (fun _ => rfl) ho (fun x1 ho => ?_)
  refine j_const B eX1_asked_2 ?_
  refine j_istore (lv' := fun x2 => [(0, .ref (ad 99)), (1, .int a1), (2, .int a2), (3, .int x1), (4, .int x2)]) B eX1_asked_3 [1, 2, 3, 4, 0] (by decide) (fun _ => rfl) ho (fun x2 ho => ?_)
  unfold sM_asked_L5 at ho
  refine fx2 (C := fun x3 x4 => XJ p l e R s m args below meth c 0 0 Q A D vwCl (cellsM g ad) 7 w 5 [(0, .ref (ad 99)), (1, .int a1), (2, .int a2), (3, .int x3), (4, .int x4)] []) (fun self5 hself5 x3 x4 ho => ?_) FU _ _ ho
  refine j_iload B eX1_asked_5 4 rfl ?_
  refine j_aload_n B eX1_asked_7 0 rfl ?_
  refine gfM_30 B eX1_asked_8 ?_
  refine j_icmp_ge B eX1_asked_11 ho (fun _ ho => ?_) (fun _ ho => ?_)
  · refine j_iload_n B eX1_asked_118 3 rfl ?_
    exact j_iret B hr hQ eX1_asked_119 ho
  · refine j_aload_n B eX1_asked_14 0 rfl ?_
    refine gfM_33 B eX1_asked_15 ?_
    refine j_iload B eX1_asked_18 4 rfl ?_
    refine ldM_33 B eX1_asked_20 ho (fun v6 ho => ?_)
    refine j_const B eX1_asked_21 ?_
    refine jn1 (C := fun z7 => XJ p l e R s m args below meth c 0 0 Q A D vwCl (cellsM g ad) 7 w 46 [(0, .ref (ad 99)), (1, .int a1), (2, .int a2), (3, .int x3), (4, .int x4)] [.int z7]) ho (fun z7 ho => ?_) (fun J8 hJ8 ho => ?_)
    · refine j_istore (lv' := fun x9 => [(0, .ref (ad 99)), (1, .int a1), (2, .int a2), (3, .int x3), (4, .int x4), (5, .int x9)]) B eX1_asked_46 [1, 2, 3, 4, 5, 0] (by decide) (fun _ => rfl) ho (fun x9 ho => ?_)
      refine j_const B eX1_asked_48 ?_
      refine j_istore (lv' := fun x10 => [(0, .ref (ad 99)), (1, .int a1), (2, .int a2), (3, .int x3), (4, .int x4), (5, .int x9), (6, .int x10)]) B eX1_asked_49 [1, 2, 3, 4, 5, 6, 0] (by decide) (fun _ => rfl) ho (fun x10 ho => ?_)
      refine jn1 (C := fun x11 => XJ p l e R s m args below meth c 0 0 Q A D vwCl (cellsM g ad) 7 w 100 [(0, .ref (ad 99)), (1, .int a1), (2, .int a2), (3, .int x3), (4, .int x4), (5, .int x11)] []) ho (fun x11 ho => ?_) (fun J12 hJ12 ho => ?_)
      · refine j_iload B eX1_asked_100 5 rfl ?_
        refine jn1 (C := fun z13 => XJ p l e R s m args below meth c 0 0 Q A D vwCl (cellsM g ad) 7 w 111 [(0, .ref (ad 99)), (1, .int a1), (2, .int a2), (4, .int x4)] [.int z13]) ho (fun z13 ho => ?_) (fun J14 hJ14 ho => ?_)
        · refine j_istore_n (lv' := fun x15 => [(0, .ref (ad 99)), (1, .int a1), (2, .int a2), (3, .int x15), (4, .int x4)]) B eX1_asked_111 [1, 2, 3, 0, 4] (by decide) (fun _ => rfl) ho (fun x15 ho => ?_)
          refine j_iinc (d := 1) (lv' := fun x16 => [(0, .ref (ad 99)), (1, .int a1), (2, .int a2), (3, .int x15), (4, .int x16)]) B eX1_asked_112 4 rfl (by decide) [1, 2, 3, 4, 0] (by decide) (fun _ => rfl) ho (fun x16 ho => ?_)
          refine j_goto B eX1_asked_115 ?_
          exact hself5 _ _ ho
        · refine j_if_eq B eX1_asked_102 ho (fun _ ho => ?_) (fun _ ho => ?_)
          · refine j_iload_n B eX1_asked_110 3 rfl ?_
            refine j_lsub (lv' := [(0, .ref (ad 99)), (1, .int a1), (2, .int a2), (4, .int x4)]) [0, 1, 2, 4] rfl ?_
            exact hJ14 _ ho
          · refine j_iload B eX1_asked_105 4 rfl ?_
            refine j_goto B eX1_asked_107 ?_
            refine j_lsub (lv' := [(0, .ref (ad 99)), (1, .int a1), (2, .int a2), (4, .int x4)]) [0, 1, 2, 4] rfl ?_
            exact hJ14 _ ho
      · unfold sM_asked_L51 at ho
        refine fx2 (C := fun x17 x18 => XJ p l e R s m args below meth c 0 0 Q A D vwCl (cellsM g ad) 7 w 51 [(0, .ref (ad 99)), (1, .int a1), (2, .int a2), (3, .int x3), (4, .int x4), (5, .int x17), (6, .int x18)] []) (fun self19 hself19 x17 x18 ho => ?_) FU _ _ ho
        refine j_iload B eX1_asked_51 6 rfl ?_
        refine j_aload_n B eX1_asked_53 0 rfl ?_
        refine gfM_34 B eX1_asked_54 ?_
        refine j_iload B eX1_asked_57 4 rfl ?_
        refine ldM_34 B eX1_asked_59 ho (fun v20 ho => ?_)
        refine j_icmp_ge B eX1_asked_60 ho (fun _ ho => ?_) (fun _ ho => ?_)
        · refine j_lsub (lv' := [(0, .ref (ad 99)), (1, .int a1), (2, .int a2), (3, .int x3), (4, .int x4), (5, .int x17)]) [0, 1, 2, 3, 4, 5] rfl ?_
          exact hJ12 _ ho
        · refine j_iload B eX1_asked_63 5 rfl ?_
          refine jn1 (C := fun z21 => XJ p l e R s m args below meth c 0 0 Q A D vwCl (cellsM g ad) 7 w 92 [(0, .ref (ad 99)), (1, .int a1), (2, .int a2), (3, .int x3), (4, .int x4), (6, .int x18)] [.int z21]) ho (fun z21 ho => ?_) (fun J22 hJ22 ho => ?_)
          · refine j_istore (lv' := fun x23 => [(0, .ref (ad 99)), (1, .int a1), (2, .int a2), (3, .int x3), (4, .int x4), (5, .int x23), (6, .int x18)]) B eX1_asked_92 [1, 2, 3, 4, 5, 0, 6] (by decide) (fun _ => rfl) ho (fun x23 ho => ?_)
            refine j_iinc (d := 1) (lv' := fun x24 => [(0, .ref (ad 99)), (1, .int a1), (2, .int a2), (3, .int x3), (4, .int x4), (5, .int x23), (6, .int x24)]) B eX1_asked_94 6 rfl (by decide) [1, 2, 3, 4, 5, 6, 0] (by decide) (fun _ => rfl) ho (fun x24 ho => ?_)
            refine j_goto B eX1_asked_97 ?_
            exact hself19 _ _ ho
          · refine j_if_eq B eX1_asked_65 ho (fun _ ho => ?_) (fun _ ho => ?_)
            · refine j_const B eX1_asked_91 ?_
              refine j_lsub (lv' := [(0, .ref (ad 99)), (1, .int a1), (2, .int a2), (3, .int x3), (4, .int x4), (6, .int x18)]) [0, 1, 2, 3, 4, 6] rfl ?_
              exact hJ22 _ ho
            · refine j_aload_n B eX1_asked_68 0 rfl ?_
              refine j_const B eX1_asked_69 ?_
              refine j_iload B eX1_asked_71 4 rfl ?_
              refine j_imul B eX1_asked_73 ?_
              refine j_const B eX1_asked_74 ?_
              refine j_iload B eX1_asked_75 6 rfl ?_
              refine j_imul B eX1_asked_77 ?_
              refine j_iadd B eX1_asked_78 ?_
              refine j_iload_n B eX1_asked_79 1 rfl ?_
              refine j_iload_n B eX1_asked_80 2 rfl ?_
              refine j_callVi (As := [.int (((12 : Int32) * x4) + ((4 : Int32) * x18)), .int a1, .int a2]) B hA (met_X1_isSo l D g ad w (((12 : Int32) * x4) + ((4 : Int32) * x18)) a1 a2) NT_ok pkX1_isSo q1120 0 rfl rfl rfl rfl hRm ⟨Nat.le_of_ble_eq_true rfl, Nat.le_of_ble_eq_true rfl⟩ rfl rfl (Nat.le_of_ble_eq_true rfl) ⟨Nat.zero_le _, Nat.zero_le _⟩ eX1_asked_81 ho (fun v25 ho => ?_)
              refine j_if_eq B eX1_asked_84 ho (fun _ ho => ?_) (fun _ ho => ?_)
              · refine j_const B eX1_asked_91 ?_
                refine j_lsub (lv' := [(0, .ref (ad 99)), (1, .int a1), (2, .int a2), (3, .int x3), (4, .int x4), (6, .int x18)]) [0, 1, 2, 3, 4, 6] rfl ?_
                exact hJ22 _ ho
              · refine j_const B eX1_asked_87 ?_
                refine j_goto B eX1_asked_88 ?_
                refine j_lsub (lv' := [(0, .ref (ad 99)), (1, .int a1), (2, .int a2), (3, .int x3), (4, .int x4), (6, .int x18)]) [0, 1, 2, 3, 4, 6] rfl ?_
                exact hJ22 _ ho
    · refine j_icmp_eq B eX1_asked_22 ho (fun _ ho => ?_) (fun _ ho => ?_)
      · refine j_const B eX1_asked_41 ?_
        refine j_goto B eX1_asked_42 ?_
        exact hJ8 _ ho
      · refine j_aload_n B eX1_asked_25 0 rfl ?_
        refine gfM_33 B eX1_asked_26 ?_
        refine j_iload B eX1_asked_29 4 rfl ?_
        refine ldM_33 B eX1_asked_31 ho (fun v26 ho => ?_)
        refine j_aload_n B eX1_asked_32 0 rfl ?_
        refine gfM_6 B eX1_asked_33 ?_
        refine j_iload_n B eX1_asked_36 1 rfl ?_
        refine ldM_6 B eX1_asked_37 ho (fun v27 ho => ?_)
        refine j_icmp_ne B eX1_asked_38 ho (fun _ ho => ?_) (fun _ ho => ?_)
        · refine j_const B eX1_asked_45 ?_
          exact hJ8 _ ho
        · refine j_const B eX1_asked_41 ?_
          refine j_goto B eX1_asked_42 ?_
          exact hJ8 _ ho
