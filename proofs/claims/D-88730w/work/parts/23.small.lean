set_option maxRecDepth 100000
theorem eJ0_min_0 : D1 cJ0_min 0 (.iload_n 0) 1 := ⟨by decide +kernel, rfl⟩
theorem eJ0_min_1 : D1 cJ0_min 1 (.iload_n 1) 2 := ⟨by decide +kernel, rfl⟩
theorem eJ0_min_2 : DJ cJ0_min 2 (.if_icmp .gt) 9 5 := ⟨7, by decide +kernel, by decide, rfl⟩
theorem eJ0_min_5 : D1 cJ0_min 5 (.iload_n 0) 6 := ⟨by decide +kernel, rfl⟩
theorem eJ0_min_6 : DJ cJ0_min 6 .goto 10 9 := ⟨4, by decide +kernel, by decide, rfl⟩
theorem eJ0_min_9 : D1 cJ0_min 9 (.iload_n 1) 10 := ⟨by decide +kernel, rfl⟩
theorem eJ0_min_10 : D1 cJ0_min 10 (.ireturn) 11 := ⟨by decide +kernel, rfl⟩
theorem eJ0_abs_0 : D1 cJ0_abs 0 (.lload_n 0) 1 := ⟨by decide +kernel, rfl⟩
theorem eJ0_abs_1 : D1 cJ0_abs 1 (.lconst 0) 2 := ⟨by decide +kernel, rfl⟩
theorem eJ0_abs_2 : D1 cJ0_abs 2 (.lcmp) 3 := ⟨by decide +kernel, rfl⟩
theorem eJ0_abs_3 : DJ cJ0_abs 3 (.ifCond .ge) 11 6 := ⟨8, by decide +kernel, by decide, rfl⟩
theorem eJ0_abs_6 : D1 cJ0_abs 6 (.lload_n 0) 7 := ⟨by decide +kernel, rfl⟩
theorem eJ0_abs_7 : D1 cJ0_abs 7 (.lneg) 8 := ⟨by decide +kernel, rfl⟩
theorem eJ0_abs_8 : DJ cJ0_abs 8 .goto 12 11 := ⟨4, by decide +kernel, by decide, rfl⟩
theorem eJ0_abs_11 : D1 cJ0_abs 11 (.lload_n 0) 12 := ⟨by decide +kernel, rfl⟩
theorem eJ0_abs_12 : D1 cJ0_abs 12 (.lreturn) 13 := ⟨by decide +kernel, rfl⟩
theorem eJ0_abs_2_0 : D1 cJ0_abs_2 0 (.iload_n 0) 1 := ⟨by decide +kernel, rfl⟩
theorem eJ0_abs_2_1 : DJ cJ0_abs_2 1 (.ifCond .ge) 9 4 := ⟨8, by decide +kernel, by decide, rfl⟩
theorem eJ0_abs_2_4 : D1 cJ0_abs_2 4 (.iload_n 0) 5 := ⟨by decide +kernel, rfl⟩
theorem eJ0_abs_2_5 : D1 cJ0_abs_2 5 (.ineg) 6 := ⟨by decide +kernel, rfl⟩
theorem eJ0_abs_2_6 : DJ cJ0_abs_2 6 .goto 10 9 := ⟨4, by decide +kernel, by decide, rfl⟩
theorem eJ0_abs_2_9 : D1 cJ0_abs_2 9 (.iload_n 0) 10 := ⟨by decide +kernel, rfl⟩
theorem eJ0_abs_2_10 : D1 cJ0_abs_2 10 (.ireturn) 11 := ⟨by decide +kernel, rfl⟩
theorem eJ0_max_0 : D1 cJ0_max 0 (.iload_n 0) 1 := ⟨by decide +kernel, rfl⟩
theorem eJ0_max_1 : D1 cJ0_max 1 (.iload_n 1) 2 := ⟨by decide +kernel, rfl⟩
theorem eJ0_max_2 : DJ cJ0_max 2 (.if_icmp .lt) 9 5 := ⟨7, by decide +kernel, by decide, rfl⟩
theorem eJ0_max_5 : D1 cJ0_max 5 (.iload_n 0) 6 := ⟨by decide +kernel, rfl⟩
theorem eJ0_max_6 : DJ cJ0_max 6 .goto 10 9 := ⟨4, by decide +kernel, by decide, rfl⟩
theorem eJ0_max_9 : D1 cJ0_max 9 (.iload_n 1) 10 := ⟨by decide +kernel, rfl⟩
theorem eJ0_max_10 : D1 cJ0_max 10 (.ireturn) 11 := ⟨by decide +kernel, rfl⟩
theorem eX0_in_0 : D1 cX0_in 0 (.lload_n 0) 1 := ⟨by decide +kernel, rfl⟩
theorem eX0_in_1 : D1 cX0_in 1 (.lload_n 2) 2 := ⟨by decide +kernel, rfl⟩
theorem eX0_in_2 : D1 cX0_in 2 (.lcmp) 3 := ⟨by decide +kernel, rfl⟩
theorem eX0_in_3 : DJ cX0_in 3 (.ifCond .lt) 17 6 := ⟨14, by decide +kernel, by decide, rfl⟩
theorem eX0_in_6 : D1 cX0_in 6 (.lload_n 0) 7 := ⟨by decide +kernel, rfl⟩
theorem eX0_in_7 : D2 cX0_in 7 (.lload 4) 9 := ⟨by decide +kernel, rfl⟩
theorem eX0_in_9 : D1 cX0_in 9 (.lcmp) 10 := ⟨by decide +kernel, rfl⟩
theorem eX0_in_10 : DJ cX0_in 10 (.ifCond .gt) 17 13 := ⟨7, by decide +kernel, by decide, rfl⟩
theorem eX0_in_13 : DC cX0_in 13 (1) 14 := Or.inl ⟨1, ⟨by decide +kernel, rfl⟩, by decide⟩
theorem eX0_in_14 : DJ cX0_in 14 .goto 18 17 := ⟨4, by decide +kernel, by decide, rfl⟩
theorem eX0_in_17 : DC cX0_in 17 (0) 18 := Or.inl ⟨0, ⟨by decide +kernel, rfl⟩, by decide⟩
theorem eX0_in_18 : D1 cX0_in 18 (.ireturn) 19 := ⟨by decide +kernel, rfl⟩
theorem eX0_at_0 : DC cX0_at 0 (17) 2 := Or.inr (Or.inl ⟨17, ⟨by decide +kernel, rfl⟩, by decide⟩)
theorem eX0_at_2 : D1 cX0_at 2 (.iload_n 0) 3 := ⟨by decide +kernel, rfl⟩
theorem eX0_at_3 : D1 cX0_at 3 (.imul) 4 := ⟨by decide +kernel, rfl⟩
theorem eX0_at_4 : D1 cX0_at 4 (.iload_n 1) 5 := ⟨by decide +kernel, rfl⟩
theorem eX0_at_5 : D1 cX0_at 5 (.iadd) 6 := ⟨by decide +kernel, rfl⟩
theorem eX0_at_6 : D1 cX0_at 6 (.ireturn) 7 := ⟨by decide +kernel, rfl⟩
theorem eX0_divisor_0 : D1 cX0_divisor 0 (.lload_n 0) 1 := ⟨by decide +kernel, rfl⟩
theorem eX0_divisor_1 : D3 cX0_divisor 1 (.invokestatic 232) 4 := ⟨by decide +kernel, rfl⟩
theorem eX0_divisor_4 : D2 cX0_divisor 4 (.lstore 4) 6 := ⟨by decide +kernel, rfl⟩
theorem eX0_divisor_6 : D1 cX0_divisor 6 (.lload_n 2) 7 := ⟨by decide +kernel, rfl⟩
theorem eX0_divisor_7 : D3 cX0_divisor 7 (.invokestatic 232) 10 := ⟨by decide +kernel, rfl⟩
theorem eX0_divisor_10 : D2 cX0_divisor 10 (.lstore 6) 12 := ⟨by decide +kernel, rfl⟩
theorem eX0_divisor_12 : D2 cX0_divisor 12 (.lload 6) 14 := ⟨by decide +kernel, rfl⟩
theorem eX0_divisor_14 : D1 cX0_divisor 14 (.lconst 0) 15 := ⟨by decide +kernel, rfl⟩
theorem eX0_divisor_15 : D1 cX0_divisor 15 (.lcmp) 16 := ⟨by decide +kernel, rfl⟩
theorem eX0_divisor_16 : DJ cX0_divisor 16 (.ifCond .eq) 37 19 := ⟨21, by decide +kernel, by decide, rfl⟩
theorem eX0_divisor_19 : D2 cX0_divisor 19 (.lload 4) 21 := ⟨by decide +kernel, rfl⟩
theorem eX0_divisor_21 : D2 cX0_divisor 21 (.lload 6) 23 := ⟨by decide +kernel, rfl⟩
theorem eX0_divisor_23 : D1 cX0_divisor 23 (.lrem) 24 := ⟨by decide +kernel, rfl⟩
theorem eX0_divisor_24 : D2 cX0_divisor 24 (.lstore 8) 26 := ⟨by decide +kernel, rfl⟩
theorem eX0_divisor_26 : D2 cX0_divisor 26 (.lload 6) 28 := ⟨by decide +kernel, rfl⟩
theorem eX0_divisor_28 : D2 cX0_divisor 28 (.lstore 4) 30 := ⟨by decide +kernel, rfl⟩
theorem eX0_divisor_30 : D2 cX0_divisor 30 (.lload 8) 32 := ⟨by decide +kernel, rfl⟩
theorem eX0_divisor_32 : D2 cX0_divisor 32 (.lstore 6) 34 := ⟨by decide +kernel, rfl⟩
theorem eX0_divisor_34 : DJ cX0_divisor 34 .goto 12 37 := ⟨-22, by decide +kernel, by decide, rfl⟩
theorem eX0_divisor_37 : D2 cX0_divisor 37 (.lload 4) 39 := ⟨by decide +kernel, rfl⟩
theorem eX0_divisor_39 : D1 cX0_divisor 39 (.lreturn) 40 := ⟨by decide +kernel, rfl⟩
theorem eX0_told_0 : D1 cX0_told 0 (.lload_n 0) 1 := ⟨by decide +kernel, rfl⟩
theorem eX0_told_1 : D1 cX0_told 1 (.lload_n 2) 2 := ⟨by decide +kernel, rfl⟩
theorem eX0_told_2 : D3 cX0_told 2 (.invokestatic 236) 5 := ⟨by decide +kernel, rfl⟩
theorem eX0_told_5 : D2 cX0_told 5 (.lstore 5) 7 := ⟨by decide +kernel, rfl⟩
theorem eX0_told_7 : D2 cX0_told 7 (.iload 4) 9 := ⟨by decide +kernel, rfl⟩
theorem eX0_told_9 : DJ cX0_told 9 (.ifCond .ne) 19 12 := ⟨10, by decide +kernel, by decide, rfl⟩
theorem eX0_told_12 : D1 cX0_told 12 (.lload_n 0) 13 := ⟨by decide +kernel, rfl⟩
theorem eX0_told_13 : D2 cX0_told 13 (.lload 5) 15 := ⟨by decide +kernel, rfl⟩
theorem eX0_told_15 : D1 cX0_told 15 (.ldiv) 16 := ⟨by decide +kernel, rfl⟩
theorem eX0_told_16 : DJ cX0_told 16 .goto 23 19 := ⟨7, by decide +kernel, by decide, rfl⟩
theorem eX0_told_19 : D1 cX0_told 19 (.lload_n 2) 20 := ⟨by decide +kernel, rfl⟩
theorem eX0_told_20 : D2 cX0_told 20 (.lload 5) 22 := ⟨by decide +kernel, rfl⟩
theorem eX0_told_22 : D1 cX0_told 22 (.ldiv) 23 := ⟨by decide +kernel, rfl⟩
theorem eX0_told_23 : D1 cX0_told 23 (.lreturn) 24 := ⟨by decide +kernel, rfl⟩
theorem eX7_seats_0 : D1 cX7_seats 0 (.aload_n 0) 1 := ⟨by decide +kernel, rfl⟩
theorem eX7_seats_1 : D3 cX7_seats 1 (.getfield 15) 4 := ⟨by decide +kernel, rfl⟩
theorem eX7_seats_4 : DJ cX7_seats 4 (.ifCond .ne) 11 7 := ⟨7, by decide +kernel, by decide, rfl⟩
theorem eX7_seats_7 : DC cX7_seats 7 (2) 8 := Or.inl ⟨2, ⟨by decide +kernel, rfl⟩, by decide⟩
theorem eX7_seats_8 : DJ cX7_seats 8 .goto 45 11 := ⟨37, by decide +kernel, by decide, rfl⟩
theorem eX7_seats_11 : D1 cX7_seats 11 (.aload_n 0) 12 := ⟨by decide +kernel, rfl⟩
theorem eX7_seats_12 : D3 cX7_seats 12 (.getfield 15) 15 := ⟨by decide +kernel, rfl⟩
theorem eX7_seats_15 : DC cX7_seats 15 (1) 16 := Or.inl ⟨1, ⟨by decide +kernel, rfl⟩, by decide⟩
theorem eX7_seats_16 : DJ cX7_seats 16 (.if_icmp .eq) 27 19 := ⟨11, by decide +kernel, by decide, rfl⟩
theorem eX7_seats_19 : D1 cX7_seats 19 (.aload_n 0) 20 := ⟨by decide +kernel, rfl⟩
theorem eX7_seats_20 : D3 cX7_seats 20 (.getfield 15) 23 := ⟨by decide +kernel, rfl⟩
theorem eX7_seats_23 : DC cX7_seats 23 (4) 24 := Or.inl ⟨4, ⟨by decide +kernel, rfl⟩, by decide⟩
theorem eX7_seats_24 : DJ cX7_seats 24 (.if_icmp .ne) 31 27 := ⟨7, by decide +kernel, by decide, rfl⟩
theorem eX7_seats_27 : DC cX7_seats 27 (4) 28 := Or.inl ⟨4, ⟨by decide +kernel, rfl⟩, by decide⟩
theorem eX7_seats_28 : DJ cX7_seats 28 .goto 45 31 := ⟨17, by decide +kernel, by decide, rfl⟩
theorem eX7_seats_31 : D1 cX7_seats 31 (.aload_n 0) 32 := ⟨by decide +kernel, rfl⟩
theorem eX7_seats_32 : D3 cX7_seats 32 (.getfield 15) 35 := ⟨by decide +kernel, rfl⟩
theorem eX7_seats_35 : DC cX7_seats 35 (2) 36 := Or.inl ⟨2, ⟨by decide +kernel, rfl⟩, by decide⟩
theorem eX7_seats_36 : DJ cX7_seats 36 (.if_icmp .ne) 44 39 := ⟨8, by decide +kernel, by decide, rfl⟩
theorem eX7_seats_39 : DC cX7_seats 39 (8) 41 := Or.inr (Or.inl ⟨8, ⟨by decide +kernel, rfl⟩, by decide⟩)
theorem eX7_seats_41 : DJ cX7_seats 41 .goto 45 44 := ⟨4, by decide +kernel, by decide, rfl⟩
theorem eX7_seats_44 : DC cX7_seats 44 (1) 45 := Or.inl ⟨1, ⟨by decide +kernel, rfl⟩, by decide⟩
theorem eX7_seats_45 : D1 cX7_seats 45 (.ireturn) 46 := ⟨by decide +kernel, rfl⟩
theorem eX7_hasCox_0 : D1 cX7_hasCox 0 (.aload_n 0) 1 := ⟨by decide +kernel, rfl⟩
theorem eX7_hasCox_1 : D3 cX7_hasCox 1 (.getfield 15) 4 := ⟨by decide +kernel, rfl⟩
theorem eX7_hasCox_4 : DC cX7_hasCox 4 (1) 5 := Or.inl ⟨1, ⟨by decide +kernel, rfl⟩, by decide⟩
theorem eX7_hasCox_5 : DJ cX7_hasCox 5 (.if_icmp .eq) 16 8 := ⟨11, by decide +kernel, by decide, rfl⟩
theorem eX7_hasCox_8 : D1 cX7_hasCox 8 (.aload_n 0) 9 := ⟨by decide +kernel, rfl⟩
theorem eX7_hasCox_9 : D3 cX7_hasCox 9 (.getfield 15) 12 := ⟨by decide +kernel, rfl⟩
theorem eX7_hasCox_12 : DC cX7_hasCox 12 (2) 13 := Or.inl ⟨2, ⟨by decide +kernel, rfl⟩, by decide⟩
theorem eX7_hasCox_13 : DJ cX7_hasCox 13 (.if_icmp .ne) 20 16 := ⟨7, by decide +kernel, by decide, rfl⟩
theorem eX7_hasCox_16 : DC cX7_hasCox 16 (1) 17 := Or.inl ⟨1, ⟨by decide +kernel, rfl⟩, by decide⟩
theorem eX7_hasCox_17 : DJ cX7_hasCox 17 .goto 21 20 := ⟨4, by decide +kernel, by decide, rfl⟩
theorem eX7_hasCox_20 : DC cX7_hasCox 20 (0) 21 := Or.inl ⟨0, ⟨by decide +kernel, rfl⟩, by decide⟩
theorem eX7_hasCox_21 : D1 cX7_hasCox 21 (.ireturn) 22 := ⟨by decide +kernel, rfl⟩
theorem eX7_side_0 : D1 cX7_side 0 (.aload_n 0) 1 := ⟨by decide +kernel, rfl⟩
theorem eX7_side_1 : D3 cX7_side 1 (.getfield 15) 4 := ⟨by decide +kernel, rfl⟩
theorem eX7_side_4 : DC cX7_side 4 (2) 5 := Or.inl ⟨2, ⟨by decide +kernel, rfl⟩, by decide⟩
theorem eX7_side_5 : DJ cX7_side 5 (.if_icmp .le) 12 8 := ⟨7, by decide +kernel, by decide, rfl⟩
theorem eX7_side_8 : DC cX7_side 8 (2) 9 := Or.inl ⟨2, ⟨by decide +kernel, rfl⟩, by decide⟩
theorem eX7_side_9 : DJ cX7_side 9 .goto 15 12 := ⟨6, by decide +kernel, by decide, rfl⟩
theorem eX7_side_12 : D1 cX7_side 12 (.iload_n 1) 13 := ⟨by decide +kernel, rfl⟩
theorem eX7_side_13 : DC cX7_side 13 (2) 14 := Or.inl ⟨2, ⟨by decide +kernel, rfl⟩, by decide⟩
theorem eX7_side_14 : D1 cX7_side 14 (.irem) 15 := ⟨by decide +kernel, rfl⟩
theorem eX7_side_15 : D1 cX7_side 15 (.ireturn) 16 := ⟨by decide +kernel, rfl⟩
theorem eX7_place_0 : DC cX7_place 0 (0) 1 := Or.inl ⟨0, ⟨by decide +kernel, rfl⟩, by decide⟩
theorem eX7_place_1 : D1 cX7_place 1 (.istore_n 2) 2 := ⟨by decide +kernel, rfl⟩
theorem eX7_place_2 : D1 cX7_place 2 (.iload_n 2) 3 := ⟨by decide +kernel, rfl⟩
theorem eX7_place_3 : DC cX7_place 3 (8) 5 := Or.inr (Or.inl ⟨8, ⟨by decide +kernel, rfl⟩, by decide⟩)
theorem eX7_place_5 : DJ cX7_place 5 (.if_icmp .gt) 26 8 := ⟨21, by decide +kernel, by decide, rfl⟩
theorem eX7_place_8 : D1 cX7_place 8 (.aload_n 0) 9 := ⟨by decide +kernel, rfl⟩
theorem eX7_place_9 : D3 cX7_place 9 (.getfield 9) 12 := ⟨by decide +kernel, rfl⟩
theorem eX7_place_12 : D1 cX7_place 12 (.iload_n 2) 13 := ⟨by decide +kernel, rfl⟩
theorem eX7_place_13 : D1 cX7_place 13 (.iaload) 14 := ⟨by decide +kernel, rfl⟩
theorem eX7_place_14 : D1 cX7_place 14 (.iload_n 1) 15 := ⟨by decide +kernel, rfl⟩
theorem eX7_place_15 : DJ cX7_place 15 (.if_icmp .ne) 20 18 := ⟨5, by decide +kernel, by decide, rfl⟩
theorem eX7_place_18 : D1 cX7_place 18 (.iload_n 2) 19 := ⟨by decide +kernel, rfl⟩
theorem eX7_place_19 : D1 cX7_place 19 (.ireturn) 20 := ⟨by decide +kernel, rfl⟩
theorem eX7_place_20 : D3 cX7_place 20 (.iinc 2 1) 23 := ⟨by decide +kernel, rfl⟩
theorem eX7_place_23 : DJ cX7_place 23 .goto 2 26 := ⟨-21, by decide +kernel, by decide, rfl⟩
theorem eX7_place_26 : DC cX7_place 26 (-1) 27 := Or.inl ⟨-1, ⟨by decide +kernel, rfl⟩, by decide⟩
theorem eX7_place_27 : D1 cX7_place 27 (.ireturn) 28 := ⟨by decide +kernel, rfl⟩
theorem eX2_mayBeOut_0 : D1 cX2_mayBeOut 0 (.aload_n 0) 1 := ⟨by decide +kernel, rfl⟩
theorem eX2_mayBeOut_1 : D3 cX2_mayBeOut 1 (.getfield 16) 4 := ⟨by decide +kernel, rfl⟩
theorem eX2_mayBeOut_4 : DJ cX2_mayBeOut 4 (.ifCond .ne) 11 7 := ⟨7, by decide +kernel, by decide, rfl⟩
theorem eX2_mayBeOut_7 : DC cX2_mayBeOut 7 (1) 8 := Or.inl ⟨1, ⟨by decide +kernel, rfl⟩, by decide⟩
theorem eX2_mayBeOut_8 : DJ cX2_mayBeOut 8 .goto 12 11 := ⟨4, by decide +kernel, by decide, rfl⟩
theorem eX2_mayBeOut_11 : DC cX2_mayBeOut 11 (0) 12 := Or.inl ⟨0, ⟨by decide +kernel, rfl⟩, by decide⟩
theorem eX2_mayBeOut_12 : D1 cX2_mayBeOut 12 (.ireturn) 13 := ⟨by decide +kernel, rfl⟩
theorem eX2_isYoung_0 : DC cX2_isYoung 0 (0) 1 := Or.inl ⟨0, ⟨by decide +kernel, rfl⟩, by decide⟩
theorem eX2_isYoung_1 : D1 cX2_isYoung 1 (.ireturn) 2 := ⟨by decide +kernel, rfl⟩
theorem eX2_mayCox_0 : D1 cX2_mayCox 0 (.aload_n 0) 1 := ⟨by decide +kernel, rfl⟩
theorem eX2_mayCox_1 : D3 cX2_mayCox 1 (.getfield 13) 4 := ⟨by decide +kernel, rfl⟩
theorem eX2_mayCox_4 : DC cX2_mayCox 4 (70) 6 := Or.inr (Or.inl ⟨70, ⟨by decide +kernel, rfl⟩, by decide⟩)
theorem eX2_mayCox_6 : DJ cX2_mayCox 6 (.if_icmp .gt) 13 9 := ⟨7, by decide +kernel, by decide, rfl⟩
theorem eX2_mayCox_9 : DC cX2_mayCox 9 (1) 10 := Or.inl ⟨1, ⟨by decide +kernel, rfl⟩, by decide⟩
theorem eX2_mayCox_10 : DJ cX2_mayCox 10 .goto 14 13 := ⟨4, by decide +kernel, by decide, rfl⟩
theorem eX2_mayCox_13 : DC cX2_mayCox 13 (0) 14 := Or.inl ⟨0, ⟨by decide +kernel, rfl⟩, by decide⟩
theorem eX2_mayCox_14 : D1 cX2_mayCox 14 (.ireturn) 15 := ⟨by decide +kernel, rfl⟩
theorem eX3_kind_0 : DC cX3_kind 0 (2) 1 := Or.inl ⟨2, ⟨by decide +kernel, rfl⟩, by decide⟩
theorem eX3_kind_1 : D1 cX3_kind 1 (.ireturn) 2 := ⟨by decide +kernel, rfl⟩
theorem eX3_dislikes_0 : D1 cX3_dislikes 0 (.iload_n 1) 1 := ⟨by decide +kernel, rfl⟩
theorem eX3_dislikes_1 : DC cX3_dislikes 1 (2) 2 := Or.inl ⟨2, ⟨by decide +kernel, rfl⟩, by decide⟩
theorem eX3_dislikes_2 : DJ cX3_dislikes 2 (.if_icmp .ne) 9 5 := ⟨7, by decide +kernel, by decide, rfl⟩
theorem eX3_dislikes_5 : DC cX3_dislikes 5 (1) 6 := Or.inl ⟨1, ⟨by decide +kernel, rfl⟩, by decide⟩
theorem eX3_dislikes_6 : DJ cX3_dislikes 6 .goto 10 9 := ⟨4, by decide +kernel, by decide, rfl⟩
theorem eX3_dislikes_9 : DC cX3_dislikes 9 (0) 10 := Or.inl ⟨0, ⟨by decide +kernel, rfl⟩, by decide⟩
theorem eX3_dislikes_10 : D1 cX3_dislikes 10 (.ireturn) 11 := ⟨by decide +kernel, rfl⟩
theorem eX4_kind_0 : D1 cX4_kind 0 (.aload_n 0) 1 := ⟨by decide +kernel, rfl⟩
theorem eX4_kind_1 : D3 cX4_kind 1 (.invokespecial 7) 4 := ⟨by decide +kernel, rfl⟩
theorem eX4_kind_4 : DC cX4_kind 4 (1) 5 := Or.inl ⟨1, ⟨by decide +kernel, rfl⟩, by decide⟩
theorem eX4_kind_5 : D1 cX4_kind 5 (.iadd) 6 := ⟨by decide +kernel, rfl⟩
theorem eX4_kind_6 : D1 cX4_kind 6 (.ireturn) 7 := ⟨by decide +kernel, rfl⟩
theorem eX4_dislikes_0 : DC cX4_dislikes 0 (2) 1 := Or.inl ⟨2, ⟨by decide +kernel, rfl⟩, by decide⟩
theorem eX4_dislikes_1 : DC cX4_dislikes 1 (2) 2 := Or.inl ⟨2, ⟨by decide +kernel, rfl⟩, by decide⟩
theorem eX4_dislikes_2 : D1 cX4_dislikes 2 (.aload_n 0) 3 := ⟨by decide +kernel, rfl⟩
theorem eX4_dislikes_3 : D1 cX4_dislikes 3 (.iload_n 1) 4 := ⟨by decide +kernel, rfl⟩
theorem eX4_dislikes_4 : D3 cX4_dislikes 4 (.invokespecial 11) 7 := ⟨by decide +kernel, rfl⟩
theorem eX4_dislikes_7 : D1 cX4_dislikes 7 (.imul) 8 := ⟨by decide +kernel, rfl⟩
theorem eX4_dislikes_8 : D1 cX4_dislikes 8 (.isub) 9 := ⟨by decide +kernel, rfl⟩
theorem eX4_dislikes_9 : D1 cX4_dislikes 9 (.ireturn) 10 := ⟨by decide +kernel, rfl⟩
theorem eX5_kind_0 : D1 cX5_kind 0 (.aload_n 0) 1 := ⟨by decide +kernel, rfl⟩
theorem eX5_kind_1 : D3 cX5_kind 1 (.invokespecial 7) 4 := ⟨by decide +kernel, rfl⟩
theorem eX5_kind_4 : DC cX5_kind 4 (2) 5 := Or.inl ⟨2, ⟨by decide +kernel, rfl⟩, by decide⟩
theorem eX5_kind_5 : D1 cX5_kind 5 (.iadd) 6 := ⟨by decide +kernel, rfl⟩
theorem eX5_kind_6 : D1 cX5_kind 6 (.ireturn) 7 := ⟨by decide +kernel, rfl⟩
theorem eX5_mayBeOut_0 : D1 cX5_mayBeOut 0 (.iload_n 1) 1 := ⟨by decide +kernel, rfl⟩
theorem eX5_mayBeOut_1 : DC cX5_mayBeOut 1 (7) 3 := Or.inr (Or.inl ⟨7, ⟨by decide +kernel, rfl⟩, by decide⟩)
theorem eX5_mayBeOut_3 : DJ cX5_mayBeOut 3 (.if_icmp .lt) 18 6 := ⟨15, by decide +kernel, by decide, rfl⟩
theorem eX5_mayBeOut_6 : D1 cX5_mayBeOut 6 (.aload_n 0) 7 := ⟨by decide +kernel, rfl⟩
theorem eX5_mayBeOut_7 : D1 cX5_mayBeOut 7 (.iload_n 1) 8 := ⟨by decide +kernel, rfl⟩
theorem eX5_mayBeOut_8 : D3 cX5_mayBeOut 8 (.invokespecial 11) 11 := ⟨by decide +kernel, rfl⟩
theorem eX5_mayBeOut_11 : DJ cX5_mayBeOut 11 (.ifCond .eq) 18 14 := ⟨7, by decide +kernel, by decide, rfl⟩
theorem eX5_mayBeOut_14 : DC cX5_mayBeOut 14 (1) 15 := Or.inl ⟨1, ⟨by decide +kernel, rfl⟩, by decide⟩
theorem eX5_mayBeOut_15 : DJ cX5_mayBeOut 15 .goto 19 18 := ⟨4, by decide +kernel, by decide, rfl⟩
theorem eX5_mayBeOut_18 : DC cX5_mayBeOut 18 (0) 19 := Or.inl ⟨0, ⟨by decide +kernel, rfl⟩, by decide⟩
theorem eX5_mayBeOut_19 : D1 cX5_mayBeOut 19 (.ireturn) 20 := ⟨by decide +kernel, rfl⟩
theorem eX5_isYoung_0 : DC cX5_isYoung 0 (1) 1 := Or.inl ⟨1, ⟨by decide +kernel, rfl⟩, by decide⟩
theorem eX5_isYoung_1 : D1 cX5_isYoung 1 (.ireturn) 2 := ⟨by decide +kernel, rfl⟩
theorem eX6_kind_0 : D1 cX6_kind 0 (.aload_n 0) 1 := ⟨by decide +kernel, rfl⟩
theorem eX6_kind_1 : D3 cX6_kind 1 (.getfield 7) 4 := ⟨by decide +kernel, rfl⟩
theorem eX6_kind_4 : D1 cX6_kind 4 (.ireturn) 5 := ⟨by decide +kernel, rfl⟩
theorem eX6_dislikes_0 : D1 cX6_dislikes 0 (.iload_n 1) 1 := ⟨by decide +kernel, rfl⟩
theorem eX6_dislikes_1 : D1 cX6_dislikes 1 (.aload_n 0) 2 := ⟨by decide +kernel, rfl⟩
theorem eX6_dislikes_2 : D3 cX6_dislikes 2 (.getfield 7) 5 := ⟨by decide +kernel, rfl⟩
theorem eX6_dislikes_5 : DJ cX6_dislikes 5 (.if_icmp .ne) 12 8 := ⟨7, by decide +kernel, by decide, rfl⟩
theorem eX6_dislikes_8 : DC cX6_dislikes 8 (0) 9 := Or.inl ⟨0, ⟨by decide +kernel, rfl⟩, by decide⟩
theorem eX6_dislikes_9 : DJ cX6_dislikes 9 .goto 22 12 := ⟨13, by decide +kernel, by decide, rfl⟩
theorem eX6_dislikes_12 : D1 cX6_dislikes 12 (.iload_n 1) 13 := ⟨by decide +kernel, rfl⟩
theorem eX6_dislikes_13 : DC cX6_dislikes 13 (2) 14 := Or.inl ⟨2, ⟨by decide +kernel, rfl⟩, by decide⟩
theorem eX6_dislikes_14 : DJ cX6_dislikes 14 (.if_icmp .ne) 21 17 := ⟨7, by decide +kernel, by decide, rfl⟩
theorem eX6_dislikes_17 : DC cX6_dislikes 17 (3) 18 := Or.inl ⟨3, ⟨by decide +kernel, rfl⟩, by decide⟩
theorem eX6_dislikes_18 : DJ cX6_dislikes 18 .goto 22 21 := ⟨4, by decide +kernel, by decide, rfl⟩
theorem eX6_dislikes_21 : DC cX6_dislikes 21 (2) 22 := Or.inl ⟨2, ⟨by decide +kernel, rfl⟩, by decide⟩
theorem eX6_dislikes_22 : D1 cX6_dislikes 22 (.ireturn) 23 := ⟨by decide +kernel, rfl⟩
def sJ0_min (a1 : Int32) (a2 : Int32) : Option (Int32) :=
  if a2 < a1 then (some a2) else (some a1)
abbrev rmJ0_min : Room := { frames := 0, cells := 0, slots := 0, locals := 0 }
theorem pkJ0_min : PkS yJ0_min cJ0_min 2 (some .int) 2 := ⟨q409, q65, q410, by decide +kernel⟩
set_option maxHeartbeats 4000000 in
theorem met_J0_min (l : Launch) (D : va_G) (tys : List (ClassId × FieldType)) (ws : va_W) (NX : Nat → State → Prop) (a1 : Int32) (a2 : Int32) (sz : Nat) (r : Int32) (ho : sJ0_min a1 a2 = some r) : Met l yJ0_min (ws_ yJ0_min cJ0_min 2 (some .int)) rmJ0_min (va_Pc [.int a1, .int a2] (MPre D vwCl tys ws NX sz)) (QcI D vwCl tys ws r (va_A ws sz)) 0 0 (va_A ws sz) := by
  refine met_XJF (cw := fun (_ : Unit) => ws) (w := ()) (cc := cJ0_min) (lv := [(0, .int a1), (1, .int a2)]) (by decide +kernel) _ (Nat.le_of_ble_eq_true rfl) rfl ?_
  intro p e s m args below meth c R Q A B hN hr hsz hA hmm hRm hQ hAe
  unfold sJ0_min at ho
  refine j_iload_n B eJ0_min_0 0 rfl ?_
  refine j_iload_n B eJ0_min_1 1 rfl ?_
  refine j_icmp_gt B eJ0_min_2 ho (fun _ ho => ?_) (fun _ ho => ?_)
  · refine j_iload_n B eJ0_min_9 1 rfl ?_
    exact j_iret B hr hQ eJ0_min_10 ho
  · refine j_iload_n B eJ0_min_5 0 rfl ?_
    refine j_goto B eJ0_min_6 ?_
    exact j_iret B hr hQ eJ0_min_10 ho
def sJ0_abs (a1 : Int64) : Option (Int64) :=
  if (0 : Int64) ≤ a1 then (some a1) else (some (-a1))
abbrev rmJ0_abs : Room := { frames := 0, cells := 0, slots := 0, locals := 0 }
theorem pkJ0_abs : PkS yJ0_abs cJ0_abs 2 (some .long) 1 := ⟨q446, q65, q447, by decide +kernel⟩
set_option maxHeartbeats 4000000 in
theorem met_J0_abs (l : Launch) (D : va_G) (tys : List (ClassId × FieldType)) (ws : va_W) (NX : Nat → State → Prop) (a1 : Int64) (sz : Nat) (r : Int64) (ho : sJ0_abs a1 = some r) : Met l yJ0_abs (ws_ yJ0_abs cJ0_abs 2 (some .long)) rmJ0_abs (va_Pc [.long a1] (MPre D vwCl tys ws NX sz)) (QcL D vwCl tys ws r (va_A ws sz)) 0 0 (va_A ws sz) := by
  refine met_XJF (cw := fun (_ : Unit) => ws) (w := ()) (cc := cJ0_abs) (lv := [(0, .long a1)]) (by decide +kernel) _ (Nat.le_of_ble_eq_true rfl) rfl ?_
  intro p e s m args below meth c R Q A B hN hr hsz hA hmm hRm hQ hAe
  unfold sJ0_abs at ho
  refine j_lload_n B eJ0_abs_0 0 rfl ?_
  refine j_lconst (v := 0) B eJ0_abs_1 rfl ?_
  refine j_lcmp_ge B eJ0_abs_2 eJ0_abs_3 ho (fun _ ho => ?_) (fun _ ho => ?_)
  · refine j_lload_n B eJ0_abs_11 0 rfl ?_
    exact j_lret B hr hQ eJ0_abs_12 ho
  · refine j_lload_n B eJ0_abs_6 0 rfl ?_
    refine j_lneg B eJ0_abs_7 ?_
    refine j_goto B eJ0_abs_8 ?_
    exact j_lret B hr hQ eJ0_abs_12 ho
def sJ0_abs_2 (a1 : Int32) : Option (Int32) :=
  if 0 ≤ a1 then (some a1) else (some (-a1))
abbrev rmJ0_abs_2 : Room := { frames := 0, cells := 0, slots := 0, locals := 0 }
theorem pkJ0_abs_2 : PkS yJ0_abs_2 cJ0_abs_2 1 (some .int) 1 := ⟨q729, q65, q730, by decide +kernel⟩
set_option maxHeartbeats 4000000 in
theorem met_J0_abs_2 (l : Launch) (D : va_G) (tys : List (ClassId × FieldType)) (ws : va_W) (NX : Nat → State → Prop) (a1 : Int32) (sz : Nat) (r : Int32) (ho : sJ0_abs_2 a1 = some r) : Met l yJ0_abs_2 (ws_ yJ0_abs_2 cJ0_abs_2 1 (some .int)) rmJ0_abs_2 (va_Pc [.int a1] (MPre D vwCl tys ws NX sz)) (QcI D vwCl tys ws r (va_A ws sz)) 0 0 (va_A ws sz) := by
  refine met_XJF (cw := fun (_ : Unit) => ws) (w := ()) (cc := cJ0_abs_2) (lv := [(0, .int a1)]) (by decide +kernel) _ (Nat.le_of_ble_eq_true rfl) rfl ?_
  intro p e s m args below meth c R Q A B hN hr hsz hA hmm hRm hQ hAe
  unfold sJ0_abs_2 at ho
  refine j_iload_n B eJ0_abs_2_0 0 rfl ?_
  refine j_if_ge B eJ0_abs_2_1 ho (fun _ ho => ?_) (fun _ ho => ?_)
  · refine j_iload_n B eJ0_abs_2_9 0 rfl ?_
    exact j_iret B hr hQ eJ0_abs_2_10 ho
  · refine j_iload_n B eJ0_abs_2_4 0 rfl ?_
    refine j_ineg B eJ0_abs_2_5 ?_
    refine j_goto B eJ0_abs_2_6 ?_
    exact j_iret B hr hQ eJ0_abs_2_10 ho
def sJ0_max (a1 : Int32) (a2 : Int32) : Option (Int32) :=
  if a1 < a2 then (some a2) else (some a1)
abbrev rmJ0_max : Room := { frames := 0, cells := 0, slots := 0, locals := 0 }
theorem pkJ0_max : PkS yJ0_max cJ0_max 2 (some .int) 2 := ⟨q744, q65, q745, by decide +kernel⟩
set_option maxHeartbeats 4000000 in
theorem met_J0_max (l : Launch) (D : va_G) (tys : List (ClassId × FieldType)) (ws : va_W) (NX : Nat → State → Prop) (a1 : Int32) (a2 : Int32) (sz : Nat) (r : Int32) (ho : sJ0_max a1 a2 = some r) : Met l yJ0_max (ws_ yJ0_max cJ0_max 2 (some .int)) rmJ0_max (va_Pc [.int a1, .int a2] (MPre D vwCl tys ws NX sz)) (QcI D vwCl tys ws r (va_A ws sz)) 0 0 (va_A ws sz) := by
  refine met_XJF (cw := fun (_ : Unit) => ws) (w := ()) (cc := cJ0_max) (lv := [(0, .int a1), (1, .int a2)]) (by decide +kernel) _ (Nat.le_of_ble_eq_true rfl) rfl ?_
  intro p e s m args below meth c R Q A B hN hr hsz hA hmm hRm hQ hAe
  unfold sJ0_max at ho
  refine j_iload_n B eJ0_max_0 0 rfl ?_
  refine j_iload_n B eJ0_max_1 1 rfl ?_
  refine j_icmp_lt B eJ0_max_2 ho (fun _ ho => ?_) (fun _ ho => ?_)
  · refine j_iload_n B eJ0_max_9 1 rfl ?_
    exact j_iret B hr hQ eJ0_max_10 ho
  · refine j_iload_n B eJ0_max_5 0 rfl ?_
    refine j_goto B eJ0_max_6 ?_
    exact j_iret B hr hQ eJ0_max_10 ho
def sX_in (a1 : Int64) (a2 : Int64) (a3 : Int64) : Option (Int32) :=
  if a1 < a2 then (some (0 : Int32)) else (if a3 < a1 then (some (0 : Int32)) else (some (1 : Int32)))
abbrev rmX0_in : Room := { frames := 0, cells := 0, slots := 0, locals := 0 }
theorem pkX0_in : PkS yX0_in cX0_in 6 (some .boolean) 3 := ⟨q225, q57, q226, by decide +kernel⟩
set_option maxHeartbeats 4000000 in
theorem met_X0_in (l : Launch) (D : va_G) (tys : List (ClassId × FieldType)) (ws : va_W) (NX : Nat → State → Prop) (a1 : Int64) (a2 : Int64) (a3 : Int64) (sz : Nat) (r : Int32) (ho : sX_in a1 a2 a3 = some r) : Met l yX0_in (ws_ yX0_in cX0_in 6 (some .boolean)) rmX0_in (va_Pc [.long a1, .long a2, .long a3] (MPre D vwCl tys ws NX sz)) (QcI D vwCl tys ws r (va_A ws sz)) 0 0 (va_A ws sz) := by
  refine met_XJ (cw := fun (_ : Unit) => ws) (w := ()) (cc := cX0_in) (lv := [(0, .long a1), (2, .long a2), (4, .long a3)]) pnX0 _ (Nat.le_of_ble_eq_true rfl) rfl ?_
  intro p e s m args below meth c R Q A B hN hr hsz hA hmm hRm hQ hAe
  unfold sX_in at ho
  refine j_lload_n B eX0_in_0 0 rfl ?_
  refine j_lload_n B eX0_in_1 1 rfl ?_
  refine j_lcmp_lt B eX0_in_2 eX0_in_3 ho (fun _ ho => ?_) (fun _ ho => ?_)
  · refine j_const B eX0_in_17 ?_
    exact j_zret B hr rfl hQ eX0_in_18 ho
  · refine j_lload_n B eX0_in_6 0 rfl ?_
    refine j_lload B eX0_in_7 2 rfl ?_
    refine j_lcmp_gt B eX0_in_9 eX0_in_10 ho (fun _ ho => ?_) (fun _ ho => ?_)
    · refine j_const B eX0_in_17 ?_
      exact j_zret B hr rfl hQ eX0_in_18 ho
    · refine j_const B eX0_in_13 ?_
      refine j_goto B eX0_in_14 ?_
      exact j_zret B hr rfl hQ eX0_in_18 ho
def sX_at (a1 : Int32) (a2 : Int32) : Option (Int32) :=
  some (((17 : Int32) * a1) + a2)
abbrev rmX0_at : Room := { frames := 0, cells := 0, slots := 0, locals := 0 }
theorem pkX0_at : PkS yX0_at cX0_at 2 (some .int) 2 := ⟨q429, q57, q430, by decide +kernel⟩
set_option maxHeartbeats 4000000 in
theorem met_X0_at (l : Launch) (D : va_G) (tys : List (ClassId × FieldType)) (ws : va_W) (NX : Nat → State → Prop) (a1 : Int32) (a2 : Int32) (sz : Nat) (r : Int32) (ho : sX_at a1 a2 = some r) : Met l yX0_at (ws_ yX0_at cX0_at 2 (some .int)) rmX0_at (va_Pc [.int a1, .int a2] (MPre D vwCl tys ws NX sz)) (QcI D vwCl tys ws r (va_A ws sz)) 0 0 (va_A ws sz) := by
  refine met_XJ (cw := fun (_ : Unit) => ws) (w := ()) (cc := cX0_at) (lv := [(0, .int a1), (1, .int a2)]) pnX0 _ (Nat.le_of_ble_eq_true rfl) rfl ?_
  intro p e s m args below meth c R Q A B hN hr hsz hA hmm hRm hQ hAe
  unfold sX_at at ho
  refine j_const B eX0_at_0 ?_
  refine j_iload_n B eX0_at_2 0 rfl ?_
  refine j_imul B eX0_at_3 ?_
  refine j_iload_n B eX0_at_4 1 rfl ?_
  refine j_iadd B eX0_at_5 ?_
  exact j_iret B hr hQ eX0_at_6 ho
def sX_divisor_L12  : Int64 → Int64 → Option (Int64) :=
  fx (fun _ _ => none) (fun self7 x5 x6 =>
    if x6 = (0 : Int64) then (some x5) else (rd (!decide (x6 = 0)) (lrm x5 x6) fun v8 => nm v8 fun x9 => nm x6 fun x10 => nm x9 fun x11 => self7 x10 x11)) FU
def sX_divisor (a1 : Int64) (a2 : Int64) : Option (Int64) :=
  bd (sJ0_abs a1) fun v1 => nm v1 fun x2 => bd (sJ0_abs a2) fun v3 => nm v3 fun x4 => sX_divisor_L12 x2 x4
abbrev rmX0_divisor : Room := { frames := 1, cells := 0, slots := 0, locals := 21 }
theorem pkX0_divisor : PkS yX0_divisor cX0_divisor 10 (some .long) 2 := ⟨q443, q57, q444, by decide +kernel⟩
set_option maxHeartbeats 4000000 in
theorem met_X0_divisor (l : Launch) (D : va_G) (tys : List (ClassId × FieldType)) (ws : va_W) (NX : Nat → State → Prop) (a1 : Int64) (a2 : Int64) (sz : Nat) (r : Int64) (ho : sX_divisor a1 a2 = some r) : Met l yX0_divisor (ws_ yX0_divisor cX0_divisor 10 (some .long)) rmX0_divisor (va_Pc [.long a1, .long a2] (MPre D vwCl tys ws NX sz)) (QcL D vwCl tys ws r (va_A ws sz)) 0 0 (va_A ws sz) := by
  refine met_XJ (cw := fun (_ : Unit) => ws) (w := ()) (cc := cX0_divisor) (lv := [(0, .long a1), (2, .long a2)]) pnX0 _ (Nat.le_of_ble_eq_true rfl) rfl ?_
  intro p e s m args below meth c R Q A B hN hr hsz hA hmm hRm hQ hAe
  unfold sX_divisor at ho
  refine j_lload_n B eX0_divisor_0 0 rfl ?_
  refine j_callSl (As := [.long a1]) B hA (met_J0_abs l D _ _ _ a1) NT_ok pkJ0_abs q445 rfl rfl hRm ⟨Nat.le_of_ble_eq_true rfl, Nat.le_of_ble_eq_true rfl⟩ rfl rfl (Nat.le_of_ble_eq_true rfl) ⟨Nat.zero_le _, Nat.zero_le _⟩ eX0_divisor_1 ho (fun v1 ho => ?_)
  refine j_lstore (lv' := fun x2 => [(2, .long a2), (4, .long x2)]) B eX0_divisor_4 [2, 0] (by decide) (fun _ => rfl) ho (fun x2 ho => ?_)
  refine j_lload_n B eX0_divisor_6 0 rfl ?_
  refine j_callSl (As := [.long a2]) B hA (met_J0_abs l D _ _ _ a2) NT_ok pkJ0_abs q445 rfl rfl hRm ⟨Nat.le_of_ble_eq_true rfl, Nat.le_of_ble_eq_true rfl⟩ rfl rfl (Nat.le_of_ble_eq_true rfl) ⟨Nat.zero_le _, Nat.zero_le _⟩ eX0_divisor_7 ho (fun v3 ho => ?_)
  refine j_lstore (lv' := fun x4 => [(4, .long x2), (6, .long x4)]) B eX0_divisor_10 [2, 0] (by decide) (fun _ => rfl) ho (fun x4 ho => ?_)
  unfold sX_divisor_L12 at ho
  refine fx2 (C := fun x5 x6 => XJ p l e R s m args below meth c 0 0 Q A D vwCl (fun (_ : Unit) => ws) 10 () 12 [(4, .long x5), (6, .long x6)] []) (fun self7 hself7 x5 x6 ho => ?_) FU _ _ ho
  refine j_lload B eX0_divisor_12 1 rfl ?_
  refine j_lconst (v := 0) B eX0_divisor_14 rfl ?_
  refine j_lcmp_eq B eX0_divisor_15 eX0_divisor_16 ho (fun _ ho => ?_) (fun _ ho => ?_)
  · refine j_lload B eX0_divisor_37 0 rfl ?_
    exact j_lret B hr hQ eX0_divisor_39 ho
  · refine j_lload B eX0_divisor_19 0 rfl ?_
    refine j_lload B eX0_divisor_21 1 rfl ?_
    refine j_lrmG B eX0_divisor_23 ho (fun v8 ho => ?_)
    refine j_lstore (lv' := fun x9 => [(6, .long x6), (8, .long x9)]) B eX0_divisor_24 [2, 0] (by decide) (fun _ => rfl) ho (fun x9 ho => ?_)
    refine j_lload B eX0_divisor_26 0 rfl ?_
    refine j_lstore (lv' := fun x10 => [(4, .long x10), (8, .long x9)]) B eX0_divisor_28 [0, 2] (by decide) (fun _ => rfl) ho (fun x10 ho => ?_)
    refine j_lload B eX0_divisor_30 1 rfl ?_
    refine j_lstore (lv' := fun x11 => [(4, .long x10), (6, .long x11)]) B eX0_divisor_32 [1, 0] (by decide) (fun _ => rfl) ho (fun x11 ho => ?_)
    refine j_goto B eX0_divisor_34 ?_
    exact hself7 _ _ ho
def sX_told (a1 : Int64) (a2 : Int64) (a3 : Int32) : Option (Int64) :=
  bd (sX_divisor a1 a2) fun v1 => nm v1 fun x2 => if a3 = 0 then (rd (!decide (x2 = 0)) (a1 / x2) fun v4 => some v4) else (rd (!decide (x2 = 0)) (a2 / x2) fun v3 => some v3)
abbrev rmX0_told : Room := { frames := 2, cells := 0, slots := 0, locals := 50 }
theorem pkX0_told : PkS yX0_told cX0_told 7 (some .long) 3 := ⟨q440, q57, q441, by decide +kernel⟩
set_option maxHeartbeats 4000000 in
theorem met_X0_told (l : Launch) (D : va_G) (tys : List (ClassId × FieldType)) (ws : va_W) (NX : Nat → State → Prop) (a1 : Int64) (a2 : Int64) (a3 : Int32) (sz : Nat) (r : Int64) (ho : sX_told a1 a2 a3 = some r) : Met l yX0_told (ws_ yX0_told cX0_told 7 (some .long)) rmX0_told (va_Pc [.long a1, .long a2, .int a3] (MPre D vwCl tys ws NX sz)) (QcL D vwCl tys ws r (va_A ws sz)) 0 0 (va_A ws sz) := by
  refine met_XJ (cw := fun (_ : Unit) => ws) (w := ()) (cc := cX0_told) (lv := [(0, .long a1), (2, .long a2), (4, .int a3)]) pnX0 _ (Nat.le_of_ble_eq_true rfl) rfl ?_
  intro p e s m args below meth c R Q A B hN hr hsz hA hmm hRm hQ hAe
  unfold sX_told at ho
  refine j_lload_n B eX0_told_0 0 rfl ?_
  refine j_lload_n B eX0_told_1 1 rfl ?_
  refine j_callSl (As := [.long a1, .long a2]) B hA (met_X0_divisor l D _ _ _ a1 a2) NT_ok pkX0_divisor q442 rfl rfl hRm ⟨Nat.le_of_ble_eq_true rfl, Nat.le_of_ble_eq_true rfl⟩ rfl rfl (Nat.le_of_ble_eq_true rfl) ⟨Nat.zero_le _, Nat.zero_le _⟩ eX0_told_2 ho (fun v1 ho => ?_)
  refine j_lstore (lv' := fun x2 => [(0, .long a1), (2, .long a2), (4, .int a3), (5, .long x2)]) B eX0_told_5 [1, 2, 3, 0] (by decide) (fun _ => rfl) ho (fun x2 ho => ?_)
  refine j_iload B eX0_told_7 2 rfl ?_
  refine j_if_ne B eX0_told_9 ho (fun _ ho => ?_) (fun _ ho => ?_)
  · refine j_lload_n B eX0_told_19 1 rfl ?_
    refine j_lload B eX0_told_20 3 rfl ?_
    refine j_ldivG B eX0_told_22 ho (fun v3 ho => ?_)
    exact j_lret B hr hQ eX0_told_23 ho
  · refine j_lload_n B eX0_told_12 0 rfl ?_
    refine j_lload B eX0_told_13 3 rfl ?_
    refine j_ldivG B eX0_told_15 ho (fun v4 ho => ?_)
    refine j_goto B eX0_told_16 ?_
    exact j_lret B hr hQ eX0_told_23 ho
def sB_seats (w : Wd) (a0 : Nat) : Option (Int32) :=
  rd (decide (a0 < w.1 0)) (w.2.1 (100 + 10 * a0) 0) fun v1 => if v1 = 0 then (some (2 : Int32)) else (rd (decide (a0 < w.1 0)) (w.2.1 (100 + 10 * a0) 0) fun v2 => if v2 = (1 : Int32) then (some (4 : Int32)) else (rd (decide (a0 < w.1 0)) (w.2.1 (100 + 10 * a0) 0) fun v3 => if v3 = (4 : Int32) then (some (4 : Int32)) else (rd (decide (a0 < w.1 0)) (w.2.1 (100 + 10 * a0) 0) fun v4 => if v4 = (2 : Int32) then (some (8 : Int32)) else (some (1 : Int32)))))
abbrev rmX7_seats : Room := { frames := 0, cells := 0, slots := 0, locals := 0 }
theorem pkX7_seats : PkV yX7_seats RX7 cX7_seats 1 (some .int) 0 := ⟨q342, q343, q64, q344, by decide +kernel⟩
set_option maxHeartbeats 4000000 in
theorem met_X7_seats (l : Launch) (D : va_G) (g : Nat → ClassId) (ad sd : Nat → Nat) (w : Wd) (a0 : Nat) (sz : Nat) (r : Int32) (ho : sB_seats w a0 = some r) : Met l yX7_seats (ws_ yX7_seats cX7_seats 1 (some .int)) rmX7_seats (va_Pc [.ref (ad (100 + 10 * a0))] (MPre D vwCl (tysG g) (cellsX g ad w) (NXX sd (cellsX g ad w)) sz)) (QcI D vwCl (tysG g) (cellsX g ad w) r (va_A (cellsX g ad w) sz)) 0 0 (va_A (cellsX g ad w) sz) := by
  refine met_XJ (cw := cellsX g ad) (w := w) (cc := cX7_seats) (lv := [(0, .ref (ad (100 + 10 * a0)))]) pnX7 _ (Nat.le_of_ble_eq_true rfl) rfl ?_
  intro p e s m args below meth c R Q A B hN hr hsz hA hmm hRm hQ hAe
  have hX : NXA sd A s := by rw [hAe, ← hsz]; exact hN
  unfold sB_seats at ho
  refine j_aload_n B eX7_seats_0 0 rfl ?_
  refine gfB (j := 0) B (by decide) q297 rfl eX7_seats_1 ho (fun v1 ho => ?_)
  refine j_if_ne B eX7_seats_4 ho (fun _ ho => ?_) (fun _ ho => ?_)
  · refine j_aload_n B eX7_seats_11 0 rfl ?_
    refine gfB (j := 0) B (by decide) q297 rfl eX7_seats_12 ho (fun v2 ho => ?_)
    refine j_const B eX7_seats_15 ?_
    refine j_icmp_eq B eX7_seats_16 ho (fun _ ho => ?_) (fun _ ho => ?_)
    · refine j_const B eX7_seats_27 ?_
      refine j_goto B eX7_seats_28 ?_
      exact j_iret B hr hQ eX7_seats_45 ho
    · refine j_aload_n B eX7_seats_19 0 rfl ?_
      refine gfB (j := 0) B (by decide) q297 rfl eX7_seats_20 ho (fun v3 ho => ?_)
      refine j_const B eX7_seats_23 ?_
      refine j_icmp_ne B eX7_seats_24 ho (fun _ ho => ?_) (fun _ ho => ?_)
      · refine j_aload_n B eX7_seats_31 0 rfl ?_
        refine gfB (j := 0) B (by decide) q297 rfl eX7_seats_32 ho (fun v4 ho => ?_)
        refine j_const B eX7_seats_35 ?_
        refine j_icmp_ne B eX7_seats_36 ho (fun _ ho => ?_) (fun _ ho => ?_)
        · refine j_const B eX7_seats_44 ?_
          exact j_iret B hr hQ eX7_seats_45 ho
        · refine j_const B eX7_seats_39 ?_
          refine j_goto B eX7_seats_41 ?_
          exact j_iret B hr hQ eX7_seats_45 ho
      · refine j_const B eX7_seats_27 ?_
        refine j_goto B eX7_seats_28 ?_
        exact j_iret B hr hQ eX7_seats_45 ho
  · refine j_const B eX7_seats_7 ?_
    refine j_goto B eX7_seats_8 ?_
    exact j_iret B hr hQ eX7_seats_45 ho
def sB_hasCox (w : Wd) (a0 : Nat) : Option (Int32) :=
  rd (decide (a0 < w.1 0)) (w.2.1 (100 + 10 * a0) 0) fun v1 => if v1 = (1 : Int32) then (some (1 : Int32)) else (rd (decide (a0 < w.1 0)) (w.2.1 (100 + 10 * a0) 0) fun v2 => if v2 = (2 : Int32) then (some (1 : Int32)) else (some (0 : Int32)))
abbrev rmX7_hasCox : Room := { frames := 0, cells := 0, slots := 0, locals := 0 }
theorem pkX7_hasCox : PkV yX7_hasCox RX7 cX7_hasCox 1 (some .boolean) 0 := ⟨q346, q347, q64, q348, by decide +kernel⟩
set_option maxHeartbeats 4000000 in
theorem met_X7_hasCox (l : Launch) (D : va_G) (g : Nat → ClassId) (ad sd : Nat → Nat) (w : Wd) (a0 : Nat) (sz : Nat) (r : Int32) (ho : sB_hasCox w a0 = some r) : Met l yX7_hasCox (ws_ yX7_hasCox cX7_hasCox 1 (some .boolean)) rmX7_hasCox (va_Pc [.ref (ad (100 + 10 * a0))] (MPre D vwCl (tysG g) (cellsX g ad w) (NXX sd (cellsX g ad w)) sz)) (QcI D vwCl (tysG g) (cellsX g ad w) r (va_A (cellsX g ad w) sz)) 0 0 (va_A (cellsX g ad w) sz) := by
  refine met_XJ (cw := cellsX g ad) (w := w) (cc := cX7_hasCox) (lv := [(0, .ref (ad (100 + 10 * a0)))]) pnX7 _ (Nat.le_of_ble_eq_true rfl) rfl ?_
  intro p e s m args below meth c R Q A B hN hr hsz hA hmm hRm hQ hAe
  have hX : NXA sd A s := by rw [hAe, ← hsz]; exact hN
  unfold sB_hasCox at ho
  refine j_aload_n B eX7_hasCox_0 0 rfl ?_
  refine gfB (j := 0) B (by decide) q297 rfl eX7_hasCox_1 ho (fun v1 ho => ?_)
  refine j_const B eX7_hasCox_4 ?_
  refine j_icmp_eq B eX7_hasCox_5 ho (fun _ ho => ?_) (fun _ ho => ?_)
  · refine j_const B eX7_hasCox_16 ?_
    refine j_goto B eX7_hasCox_17 ?_
    exact j_zret B hr rfl hQ eX7_hasCox_21 ho
  · refine j_aload_n B eX7_hasCox_8 0 rfl ?_
    refine gfB (j := 0) B (by decide) q297 rfl eX7_hasCox_9 ho (fun v2 ho => ?_)
    refine j_const B eX7_hasCox_12 ?_
    refine j_icmp_ne B eX7_hasCox_13 ho (fun _ ho => ?_) (fun _ ho => ?_)
    · refine j_const B eX7_hasCox_20 ?_
      exact j_zret B hr rfl hQ eX7_hasCox_21 ho
    · refine j_const B eX7_hasCox_16 ?_
      refine j_goto B eX7_hasCox_17 ?_
      exact j_zret B hr rfl hQ eX7_hasCox_21 ho
def sB_side (w : Wd) (a0 : Nat) (a1 : Int32) : Option (Int32) :=
  rd (decide (a0 < w.1 0)) (w.2.1 (100 + 10 * a0) 0) fun v1 => if v1 ≤ (2 : Int32) then (some (irm a1 (2 : Int32))) else (some (2 : Int32))
abbrev rmX7_side : Room := { frames := 0, cells := 0, slots := 0, locals := 0 }
theorem pkX7_side : PkV yX7_side RX7 cX7_side 2 (some .int) 1 := ⟨q492, q493, q64, q494, by decide +kernel⟩
set_option maxHeartbeats 4000000 in
theorem met_X7_side (l : Launch) (D : va_G) (g : Nat → ClassId) (ad sd : Nat → Nat) (w : Wd) (a0 : Nat) (a1 : Int32) (sz : Nat) (r : Int32) (ho : sB_side w a0 a1 = some r) : Met l yX7_side (ws_ yX7_side cX7_side 2 (some .int)) rmX7_side (va_Pc [.ref (ad (100 + 10 * a0)), .int a1] (MPre D vwCl (tysG g) (cellsX g ad w) (NXX sd (cellsX g ad w)) sz)) (QcI D vwCl (tysG g) (cellsX g ad w) r (va_A (cellsX g ad w) sz)) 0 0 (va_A (cellsX g ad w) sz) := by
  refine met_XJ (cw := cellsX g ad) (w := w) (cc := cX7_side) (lv := [(0, .ref (ad (100 + 10 * a0))), (1, .int a1)]) pnX7 _ (Nat.le_of_ble_eq_true rfl) rfl ?_
  intro p e s m args below meth c R Q A B hN hr hsz hA hmm hRm hQ hAe
  have hX : NXA sd A s := by rw [hAe, ← hsz]; exact hN
  unfold sB_side at ho
  refine j_aload_n B eX7_side_0 0 rfl ?_
  refine gfB (j := 0) B (by decide) q297 rfl eX7_side_1 ho (fun v1 ho => ?_)
  refine j_const B eX7_side_4 ?_
  refine j_icmp_le B eX7_side_5 ho (fun _ ho => ?_) (fun _ ho => ?_)
  · refine j_iload_n B eX7_side_12 1 rfl ?_
    refine j_const B eX7_side_13 ?_
    refine j_irm B eX7_side_14 (by decide) ?_
    exact j_iret B hr hQ eX7_side_15 ho
  · refine j_const B eX7_side_8 ?_
    refine j_goto B eX7_side_9 ?_
    exact j_iret B hr hQ eX7_side_15 ho
def sB_place_L2 (w : Wd) (a0 : Nat) (a1 : Int32) : Int32 → Option (Int32) :=
  fx (fun _ => none) (fun self3 x2 =>
    if (8 : Int32) < x2 then (some (-1 : Int32)) else (gd (decide (a0 < w.1 0)) (rd (decide (a0 < w.1 0) && inb x2 9) (w.2.1 (101 + 10 * a0) (Int32.toNatClampNeg x2)) fun v4 => if v4 = a1 then (some x2) else (nm (x2 + (1 : Int32)) fun x5 => self3 x5)))) FU
def sB_place (w : Wd) (a0 : Nat) (a1 : Int32) : Option (Int32) :=
  nm (0 : Int32) fun x1 => sB_place_L2 w a0 a1 x1
abbrev rmX7_place : Room := { frames := 0, cells := 0, slots := 0, locals := 0 }
theorem pkX7_place : PkV yX7_place RX7 cX7_place 3 (some .int) 1 := ⟨q362, q363, q64, q364, by decide +kernel⟩
set_option maxHeartbeats 4000000 in
theorem met_X7_place (l : Launch) (D : va_G) (g : Nat → ClassId) (ad sd : Nat → Nat) (w : Wd) (a0 : Nat) (a1 : Int32) (sz : Nat) (r : Int32) (ho : sB_place w a0 a1 = some r) : Met l yX7_place (ws_ yX7_place cX7_place 3 (some .int)) rmX7_place (va_Pc [.ref (ad (100 + 10 * a0)), .int a1] (MPre D vwCl (tysG g) (cellsX g ad w) (NXX sd (cellsX g ad w)) sz)) (QcI D vwCl (tysG g) (cellsX g ad w) r (va_A (cellsX g ad w) sz)) 0 0 (va_A (cellsX g ad w) sz) := by
  refine met_XJ (cw := cellsX g ad) (w := w) (cc := cX7_place) (lv := [(0, .ref (ad (100 + 10 * a0))), (1, .int a1)]) pnX7 _ (Nat.le_of_ble_eq_true rfl) rfl ?_
  intro p e s m args below meth c R Q A B hN hr hsz hA hmm hRm hQ hAe
  have hX : NXA sd A s := by rw [hAe, ← hsz]; exact hN
  unfold sB_place at ho
  refine j_const B eX7_place_0 ?_
  refine j_istore_n (lv' := fun x1 => [(0, .ref (ad (100 + 10 * a0))), (1, .int a1), (2, .int x1)]) B eX7_place_1 [1, 2, 0] (by decide) (fun _ => rfl) ho (fun x1 ho => ?_)
  unfold sB_place_L2 at ho
  refine fx1 (C := fun x2 => XJ p l e R s m args below meth c 0 0 Q A D vwCl (cellsX g ad) 3 w 2 [(0, .ref (ad (100 + 10 * a0))), (1, .int a1), (2, .int x2)] []) (fun self3 hself3 x2 ho => ?_) FU _ ho
  refine j_iload_n B eX7_place_2 2 rfl ?_
  refine j_const B eX7_place_3 ?_
  refine j_icmp_gt B eX7_place_5 ho (fun _ ho => ?_) (fun _ ho => ?_)
  · refine j_const B eX7_place_26 ?_
    exact j_iret B hr hQ eX7_place_27 ho
  · refine j_aload_n B eX7_place_8 0 rfl ?_
    refine gfBr (j := 4) B (by decide) q305 rfl eX7_place_9 ho (fun ho => ?_)
    refine j_iload_n B eX7_place_12 2 rfl ?_
    refine ldC B eX7_place_13 ho (fun v4 ho => ?_)
    refine j_iload_n B eX7_place_14 1 rfl ?_
    refine j_icmp_ne B eX7_place_15 ho (fun _ ho => ?_) (fun _ ho => ?_)
    · refine j_iinc (d := 1) (lv' := fun x5 => [(0, .ref (ad (100 + 10 * a0))), (1, .int a1), (2, .int x5)]) B eX7_place_20 2 rfl (by decide) [1, 2, 0] (by decide) (fun _ => rfl) ho (fun x5 ho => ?_)
      refine j_goto B eX7_place_23 ?_
      exact hself3 _ ho
    · refine j_iload_n B eX7_place_18 2 rfl ?_
      exact j_iret B hr hQ eX7_place_19 ho
def sX2_mayBeOut (w : Wd) (a0 : Nat) (a1 : Int32) : Option (Int32) :=
  rd (oOk w a0) (w.2.1 (102 + 10 * a0) 2) fun v1 => if v1 = 0 then (some (1 : Int32)) else (some (0 : Int32))
abbrev rmX2_mayBeOut : Room := { frames := 0, cells := 0, slots := 0, locals := 0 }
set_option maxHeartbeats 4000000 in
theorem met_X2_mayBeOut (l : Launch) (D : va_G) (g : Nat → ClassId) (ad sd : Nat → Nat) (w : Wd) (a0 : Nat) (a1 : Int32) (sz : Nat) (r : Int32) (ho : sX2_mayBeOut w a0 a1 = some r) : Met l yX2_mayBeOut (ws_ yX2_mayBeOut cX2_mayBeOut 2 (some .boolean)) rmX2_mayBeOut (va_Pc [.ref (ad (102 + 10 * a0)), .int a1] (MPre D vwCl (tysG g) (cellsX g ad w) (NXX sd (cellsX g ad w)) sz)) (QcI D vwCl (tysG g) (cellsX g ad w) r (va_A (cellsX g ad w) sz)) 0 0 (va_A (cellsX g ad w) sz) := by
  refine met_XJ (cw := cellsX g ad) (w := w) (cc := cX2_mayBeOut) (lv := [(0, .ref (ad (102 + 10 * a0))), (1, .int a1)]) pnX2 _ (Nat.le_of_ble_eq_true rfl) rfl ?_
  intro p e s m args below meth c R Q A B hN hr hsz hA hmm hRm hQ hAe
  have hX : NXA sd A s := by rw [hAe, ← hsz]; exact hN
  unfold sX2_mayBeOut at ho
  refine j_aload_n B eX2_mayBeOut_0 0 rfl ?_
  refine gfO_2 B q245 eX2_mayBeOut_1 ho (fun v1 ho => ?_)
  refine j_if_ne B eX2_mayBeOut_4 ho (fun _ ho => ?_) (fun _ ho => ?_)
  · refine j_const B eX2_mayBeOut_11 ?_
    exact j_zret B hr rfl hQ eX2_mayBeOut_12 ho
  · refine j_const B eX2_mayBeOut_7 ?_
    refine j_goto B eX2_mayBeOut_8 ?_
    exact j_zret B hr rfl hQ eX2_mayBeOut_12 ho
def sX2_isYoung (w : Wd) (a0 : Nat) : Option (Int32) :=
  some (0 : Int32)
abbrev rmX2_isYoung : Room := { frames := 0, cells := 0, slots := 0, locals := 0 }
set_option maxHeartbeats 4000000 in
theorem met_X2_isYoung (l : Launch) (D : va_G) (g : Nat → ClassId) (ad sd : Nat → Nat) (w : Wd) (a0 : Nat) (sz : Nat) (r : Int32) (ho : sX2_isYoung w a0 = some r) : Met l yX2_isYoung (ws_ yX2_isYoung cX2_isYoung 1 (some .boolean)) rmX2_isYoung (va_Pc [.ref (ad (102 + 10 * a0))] (MPre D vwCl (tysG g) (cellsX g ad w) (NXX sd (cellsX g ad w)) sz)) (QcI D vwCl (tysG g) (cellsX g ad w) r (va_A (cellsX g ad w) sz)) 0 0 (va_A (cellsX g ad w) sz) := by
  refine met_XJ (cw := cellsX g ad) (w := w) (cc := cX2_isYoung) (lv := [(0, .ref (ad (102 + 10 * a0)))]) pnX2 _ (Nat.le_of_ble_eq_true rfl) rfl ?_
  intro p e s m args below meth c R Q A B hN hr hsz hA hmm hRm hQ hAe
  have hX : NXA sd A s := by rw [hAe, ← hsz]; exact hN
  unfold sX2_isYoung at ho
  refine j_const B eX2_isYoung_0 ?_
  exact j_zret B hr rfl hQ eX2_isYoung_1 ho
def sX2_mayCox (w : Wd) (a0 : Nat) : Option (Int32) :=
  rd (oOk w a0) (w.2.1 (102 + 10 * a0) 1) fun v1 => if (70 : Int32) < v1 then (some (0 : Int32)) else (some (1 : Int32))
abbrev rmX2_mayCox : Room := { frames := 0, cells := 0, slots := 0, locals := 0 }
set_option maxHeartbeats 4000000 in
theorem met_X2_mayCox (l : Launch) (D : va_G) (g : Nat → ClassId) (ad sd : Nat → Nat) (w : Wd) (a0 : Nat) (sz : Nat) (r : Int32) (ho : sX2_mayCox w a0 = some r) : Met l yX2_mayCox (ws_ yX2_mayCox cX2_mayCox 1 (some .boolean)) rmX2_mayCox (va_Pc [.ref (ad (102 + 10 * a0))] (MPre D vwCl (tysG g) (cellsX g ad w) (NXX sd (cellsX g ad w)) sz)) (QcI D vwCl (tysG g) (cellsX g ad w) r (va_A (cellsX g ad w) sz)) 0 0 (va_A (cellsX g ad w) sz) := by
  refine met_XJ (cw := cellsX g ad) (w := w) (cc := cX2_mayCox) (lv := [(0, .ref (ad (102 + 10 * a0)))]) pnX2 _ (Nat.le_of_ble_eq_true rfl) rfl ?_
  intro p e s m args below meth c R Q A B hN hr hsz hA hmm hRm hQ hAe
  have hX : NXA sd A s := by rw [hAe, ← hsz]; exact hN
  unfold sX2_mayCox at ho
  refine j_aload_n B eX2_mayCox_0 0 rfl ?_
  refine gfO_1 B q243 eX2_mayCox_1 ho (fun v1 ho => ?_)
  refine j_const B eX2_mayCox_4 ?_
  refine j_icmp_gt B eX2_mayCox_6 ho (fun _ ho => ?_) (fun _ ho => ?_)
  · refine j_const B eX2_mayCox_13 ?_
    exact j_zret B hr rfl hQ eX2_mayCox_14 ho
  · refine j_const B eX2_mayCox_9 ?_
    refine j_goto B eX2_mayCox_10 ?_
    exact j_zret B hr rfl hQ eX2_mayCox_14 ho
def sX3_kind (w : Wd) (a0 : Nat) : Option (Int32) :=
  some (2 : Int32)
abbrev rmX3_kind : Room := { frames := 0, cells := 0, slots := 0, locals := 0 }
set_option maxHeartbeats 4000000 in
theorem met_X3_kind (l : Launch) (D : va_G) (g : Nat → ClassId) (ad sd : Nat → Nat) (w : Wd) (a0 : Nat) (sz : Nat) (r : Int32) (ho : sX3_kind w a0 = some r) : Met l yX3_kind (ws_ yX3_kind cX3_kind 1 (some .int)) rmX3_kind (va_Pc [.ref (ad (102 + 10 * a0))] (MPre D vwCl (tysG g) (cellsX g ad w) (NXX sd (cellsX g ad w)) sz)) (QcI D vwCl (tysG g) (cellsX g ad w) r (va_A (cellsX g ad w) sz)) 0 0 (va_A (cellsX g ad w) sz) := by
  refine met_XJ (cw := cellsX g ad) (w := w) (cc := cX3_kind) (lv := [(0, .ref (ad (102 + 10 * a0)))]) pnX3 _ (Nat.le_of_ble_eq_true rfl) rfl ?_
  intro p e s m args below meth c R Q A B hN hr hsz hA hmm hRm hQ hAe
  have hX : NXA sd A s := by rw [hAe, ← hsz]; exact hN
  unfold sX3_kind at ho
  refine j_const B eX3_kind_0 ?_
  exact j_iret B hr hQ eX3_kind_1 ho
def sX3_dislikes (w : Wd) (a0 : Nat) (a1 : Int32) : Option (Int32) :=
  if a1 = (2 : Int32) then (some (1 : Int32)) else (some (0 : Int32))
abbrev rmX3_dislikes : Room := { frames := 0, cells := 0, slots := 0, locals := 0 }
set_option maxHeartbeats 4000000 in
theorem met_X3_dislikes (l : Launch) (D : va_G) (g : Nat → ClassId) (ad sd : Nat → Nat) (w : Wd) (a0 : Nat) (a1 : Int32) (sz : Nat) (r : Int32) (ho : sX3_dislikes w a0 a1 = some r) : Met l yX3_dislikes (ws_ yX3_dislikes cX3_dislikes 2 (some .int)) rmX3_dislikes (va_Pc [.ref (ad (102 + 10 * a0)), .int a1] (MPre D vwCl (tysG g) (cellsX g ad w) (NXX sd (cellsX g ad w)) sz)) (QcI D vwCl (tysG g) (cellsX g ad w) r (va_A (cellsX g ad w) sz)) 0 0 (va_A (cellsX g ad w) sz) := by
  refine met_XJ (cw := cellsX g ad) (w := w) (cc := cX3_dislikes) (lv := [(0, .ref (ad (102 + 10 * a0))), (1, .int a1)]) pnX3 _ (Nat.le_of_ble_eq_true rfl) rfl ?_
  intro p e s m args below meth c R Q A B hN hr hsz hA hmm hRm hQ hAe
  have hX : NXA sd A s := by rw [hAe, ← hsz]; exact hN
  unfold sX3_dislikes at ho
  refine j_iload_n B eX3_dislikes_0 1 rfl ?_
  refine j_const B eX3_dislikes_1 ?_
  refine j_icmp_ne B eX3_dislikes_2 ho (fun _ ho => ?_) (fun _ ho => ?_)
  · refine j_const B eX3_dislikes_9 ?_
    exact j_iret B hr hQ eX3_dislikes_10 ho
  · refine j_const B eX3_dislikes_5 ?_
    refine j_goto B eX3_dislikes_6 ?_
    exact j_iret B hr hQ eX3_dislikes_10 ho
def sX4_kind (w : Wd) (a0 : Nat) : Option (Int32) :=
  gd (decide (a0 < w.1 1) && decide (w.1 (108 + 10 * a0) = 2)) (bd (sX3_kind w a0) fun v1 => some (v1 + (1 : Int32)))
abbrev rmX4_kind : Room := { frames := 1, cells := 0, slots := 0, locals := 20 }
set_option maxHeartbeats 4000000 in
theorem met_X4_kind (l : Launch) (D : va_G) (g : Nat → ClassId) (ad sd : Nat → Nat) (w : Wd) (a0 : Nat) (sz : Nat) (r : Int32) (ho : sX4_kind w a0 = some r) : Met l yX4_kind (ws_ yX4_kind cX4_kind 1 (some .int)) rmX4_kind (va_Pc [.ref (ad (102 + 10 * a0))] (MPre D vwCl (tysG g) (cellsX g ad w) (NXX sd (cellsX g ad w)) sz)) (QcI D vwCl (tysG g) (cellsX g ad w) r (va_A (cellsX g ad w) sz)) 0 0 (va_A (cellsX g ad w) sz) := by
  refine met_XJ (cw := cellsX g ad) (w := w) (cc := cX4_kind) (lv := [(0, .ref (ad (102 + 10 * a0)))]) pnX4 _ (Nat.le_of_ble_eq_true rfl) rfl ?_
  intro p e s m args below meth c R Q A B hN hr hsz hA hmm hRm hQ hAe
  have hX : NXA sd A s := by rw [hAe, ← hsz]; exact hN
  unfold sX4_kind at ho
  refine j_aload_n B eX4_kind_0 0 rfl ?_
  obtain ⟨hg, ho⟩ := gd_e ho
  simp only [Bool.and_eq_true, decide_eq_true_eq] at hg
  refine j_callSUi (n := 0) (As := []) B hA (met_X3_kind l D g ad sd w a0) (NXX_ok hX) q382 q1199 q263 q377 q60 q378 (by decide +kernel) _ (at_oarK hg.1 hg.2) rfl rfl rfl hRm ⟨Nat.le_of_ble_eq_true rfl, Nat.le_of_ble_eq_true rfl⟩ rfl rfl (Nat.le_of_ble_eq_true rfl) ⟨Nat.zero_le _, Nat.zero_le _⟩ eX4_kind_1 ho (fun v1 ho => ?_)
  refine j_const B eX4_kind_4 ?_
  refine j_iadd B eX4_kind_5 ?_
  exact j_iret B hr hQ eX4_kind_6 ho
def sX4_dislikes (w : Wd) (a0 : Nat) (a1 : Int32) : Option (Int32) :=
  gd (decide (a0 < w.1 1) && decide (w.1 (108 + 10 * a0) = 2)) (bd (sX3_dislikes w a0 a1) fun v1 => some ((2 : Int32) - ((2 : Int32) * v1)))
abbrev rmX4_dislikes : Room := { frames := 1, cells := 0, slots := 0, locals := 21 }
set_option maxHeartbeats 4000000 in
theorem met_X4_dislikes (l : Launch) (D : va_G) (g : Nat → ClassId) (ad sd : Nat → Nat) (w : Wd) (a0 : Nat) (a1 : Int32) (sz : Nat) (r : Int32) (ho : sX4_dislikes w a0 a1 = some r) : Met l yX4_dislikes (ws_ yX4_dislikes cX4_dislikes 2 (some .int)) rmX4_dislikes (va_Pc [.ref (ad (102 + 10 * a0)), .int a1] (MPre D vwCl (tysG g) (cellsX g ad w) (NXX sd (cellsX g ad w)) sz)) (QcI D vwCl (tysG g) (cellsX g ad w) r (va_A (cellsX g ad w) sz)) 0 0 (va_A (cellsX g ad w) sz) := by
  refine met_XJ (cw := cellsX g ad) (w := w) (cc := cX4_dislikes) (lv := [(0, .ref (ad (102 + 10 * a0))), (1, .int a1)]) pnX4 _ (Nat.le_of_ble_eq_true rfl) rfl ?_
  intro p e s m args below meth c R Q A B hN hr hsz hA hmm hRm hQ hAe
  have hX : NXA sd A s := by rw [hAe, ← hsz]; exact hN
  unfold sX4_dislikes at ho
  refine j_const B eX4_dislikes_0 ?_
  refine j_const B eX4_dislikes_1 ?_
  refine j_aload_n B eX4_dislikes_2 0 rfl ?_
  refine j_iload_n B eX4_dislikes_3 1 rfl ?_
  obtain ⟨hg, ho⟩ := gd_e ho
  simp only [Bool.and_eq_true, decide_eq_true_eq] at hg
  refine j_callSUi (n := 1) (As := [.int a1]) B hA (met_X3_dislikes l D g ad sd w a0 a1) (NXX_ok hX) q503 q1200 q263 q498 q60 q499 (by decide +kernel) _ (at_oarK hg.1 hg.2) rfl rfl rfl hRm ⟨Nat.le_of_ble_eq_true rfl, Nat.le_of_ble_eq_true rfl⟩ rfl rfl (Nat.le_of_ble_eq_true rfl) ⟨Nat.zero_le _, Nat.zero_le _⟩ eX4_dislikes_4 ho (fun v1 ho => ?_)
  refine j_imul B eX4_dislikes_7 ?_
  refine j_isub B eX4_dislikes_8 ?_
  exact j_iret B hr hQ eX4_dislikes_9 ho
def sX5_kind (w : Wd) (a0 : Nat) : Option (Int32) :=
  gd (decide (a0 < w.1 1) && decide (w.1 (108 + 10 * a0) = 3)) (bd (sX3_kind w a0) fun v1 => some (v1 + (2 : Int32)))
abbrev rmX5_kind : Room := { frames := 1, cells := 0, slots := 0, locals := 20 }
set_option maxHeartbeats 4000000 in
theorem met_X5_kind (l : Launch) (D : va_G) (g : Nat → ClassId) (ad sd : Nat → Nat) (w : Wd) (a0 : Nat) (sz : Nat) (r : Int32) (ho : sX5_kind w a0 = some r) : Met l yX5_kind (ws_ yX5_kind cX5_kind 1 (some .int)) rmX5_kind (va_Pc [.ref (ad (102 + 10 * a0))] (MPre D vwCl (tysG g) (cellsX g ad w) (NXX sd (cellsX g ad w)) sz)) (QcI D vwCl (tysG g) (cellsX g ad w) r (va_A (cellsX g ad w) sz)) 0 0 (va_A (cellsX g ad w) sz) := by
  refine met_XJ (cw := cellsX g ad) (w := w) (cc := cX5_kind) (lv := [(0, .ref (ad (102 + 10 * a0)))]) pnX5 _ (Nat.le_of_ble_eq_true rfl) rfl ?_
  intro p e s m args below meth c R Q A B hN hr hsz hA hmm hRm hQ hAe
  have hX : NXA sd A s := by rw [hAe, ← hsz]; exact hN
  unfold sX5_kind at ho
  refine j_aload_n B eX5_kind_0 0 rfl ?_
  obtain ⟨hg, ho⟩ := gd_e ho
  simp only [Bool.and_eq_true, decide_eq_true_eq] at hg
  refine j_callSUi (n := 0) (As := []) B hA (met_X3_kind l D g ad sd w a0) (NXX_ok hX) q389 q1199 q273 q377 q60 q378 (by decide +kernel) _ (at_oarK hg.1 hg.2) rfl rfl rfl hRm ⟨Nat.le_of_ble_eq_true rfl, Nat.le_of_ble_eq_true rfl⟩ rfl rfl (Nat.le_of_ble_eq_true rfl) ⟨Nat.zero_le _, Nat.zero_le _⟩ eX5_kind_1 ho (fun v1 ho => ?_)
  refine j_const B eX5_kind_4 ?_
  refine j_iadd B eX5_kind_5 ?_
  exact j_iret B hr hQ eX5_kind_6 ho
def sX5_mayBeOut (w : Wd) (a0 : Nat) (a1 : Int32) : Option (Int32) :=
  if a1 < (7 : Int32) then (some (0 : Int32)) else (gd (decide (a0 < w.1 1) && decide (w.1 (108 + 10 * a0) = 3)) (bd (sX2_mayBeOut w a0 a1) fun v1 => if v1 = 0 then (some (0 : Int32)) else (some (1 : Int32))))
abbrev rmX5_mayBeOut : Room := { frames := 1, cells := 0, slots := 0, locals := 21 }
set_option maxHeartbeats 4000000 in
theorem met_X5_mayBeOut (l : Launch) (D : va_G) (g : Nat → ClassId) (ad sd : Nat → Nat) (w : Wd) (a0 : Nat) (a1 : Int32) (sz : Nat) (r : Int32) (ho : sX5_mayBeOut w a0 a1 = some r) : Met l yX5_mayBeOut (ws_ yX5_mayBeOut cX5_mayBeOut 2 (some .boolean)) rmX5_mayBeOut (va_Pc [.ref (ad (102 + 10 * a0)), .int a1] (MPre D vwCl (tysG g) (cellsX g ad w) (NXX sd (cellsX g ad w)) sz)) (QcI D vwCl (tysG g) (cellsX g ad w) r (va_A (cellsX g ad w) sz)) 0 0 (va_A (cellsX g ad w) sz) := by
  refine met_XJ (cw := cellsX g ad) (w := w) (cc := cX5_mayBeOut) (lv := [(0, .ref (ad (102 + 10 * a0))), (1, .int a1)]) pnX5 _ (Nat.le_of_ble_eq_true rfl) rfl ?_
  intro p e s m args below meth c R Q A B hN hr hsz hA hmm hRm hQ hAe
  have hX : NXA sd A s := by rw [hAe, ← hsz]; exact hN
  unfold sX5_mayBeOut at ho
  refine j_iload_n B eX5_mayBeOut_0 1 rfl ?_
  refine j_const B eX5_mayBeOut_1 ?_
  refine j_icmp_lt B eX5_mayBeOut_3 ho (fun _ ho => ?_) (fun _ ho => ?_)
  · refine j_const B eX5_mayBeOut_18 ?_
    exact j_zret B hr rfl hQ eX5_mayBeOut_19 ho
  · refine j_aload_n B eX5_mayBeOut_6 0 rfl ?_
    refine j_iload_n B eX5_mayBeOut_7 1 rfl ?_
    obtain ⟨hg, ho⟩ := gd_e ho
    simp only [Bool.and_eq_true, decide_eq_true_eq] at hg
    refine j_callSVi (n := 1) (As := [.int a1]) B hA (met_X2_mayBeOut l D g ad sd w a0 a1) (NXX_ok hX) q483 q484 q273 q253 q475 q59 q486 ⟨rfl, rfl⟩ (by decide +kernel) _ (at_oarK hg.1 hg.2) rfl rfl rfl hRm ⟨Nat.le_of_ble_eq_true rfl, Nat.le_of_ble_eq_true rfl⟩ rfl rfl (Nat.le_of_ble_eq_true rfl) ⟨Nat.zero_le _, Nat.zero_le _⟩ eX5_mayBeOut_8 ho (fun v1 ho => ?_)
    refine j_if_eq B eX5_mayBeOut_11 ho (fun _ ho => ?_) (fun _ ho => ?_)
    · refine j_const B eX5_mayBeOut_18 ?_
      exact j_zret B hr rfl hQ eX5_mayBeOut_19 ho
    · refine j_const B eX5_mayBeOut_14 ?_
      refine j_goto B eX5_mayBeOut_15 ?_
      exact j_zret B hr rfl hQ eX5_mayBeOut_19 ho
def sX5_isYoung (w : Wd) (a0 : Nat) : Option (Int32) :=
  some (1 : Int32)
abbrev rmX5_isYoung : Room := { frames := 0, cells := 0, slots := 0, locals := 0 }
set_option maxHeartbeats 4000000 in
theorem met_X5_isYoung (l : Launch) (D : va_G) (g : Nat → ClassId) (ad sd : Nat → Nat) (w : Wd) (a0 : Nat) (sz : Nat) (r : Int32) (ho : sX5_isYoung w a0 = some r) : Met l yX5_isYoung (ws_ yX5_isYoung cX5_isYoung 1 (some .boolean)) rmX5_isYoung (va_Pc [.ref (ad (102 + 10 * a0))] (MPre D vwCl (tysG g) (cellsX g ad w) (NXX sd (cellsX g ad w)) sz)) (QcI D vwCl (tysG g) (cellsX g ad w) r (va_A (cellsX g ad w) sz)) 0 0 (va_A (cellsX g ad w) sz) := by
  refine met_XJ (cw := cellsX g ad) (w := w) (cc := cX5_isYoung) (lv := [(0, .ref (ad (102 + 10 * a0)))]) pnX5 _ (Nat.le_of_ble_eq_true rfl) rfl ?_
  intro p e s m args below meth c R Q A B hN hr hsz hA hmm hRm hQ hAe
  have hX : NXA sd A s := by rw [hAe, ← hsz]; exact hN
  unfold sX5_isYoung at ho
  refine j_const B eX5_isYoung_0 ?_
  exact j_zret B hr rfl hQ eX5_isYoung_1 ho
def sX6_kind (w : Wd) (a0 : Nat) : Option (Int32) :=
  rd (decide (a0 < w.1 1) && decide (w.1 (108 + 10 * a0) = 0)) (w.2.1 (102 + 10 * a0) 3) fun v1 => some v1
abbrev rmX6_kind : Room := { frames := 0, cells := 0, slots := 0, locals := 0 }
set_option maxHeartbeats 4000000 in
theorem met_X6_kind (l : Launch) (D : va_G) (g : Nat → ClassId) (ad sd : Nat → Nat) (w : Wd) (a0 : Nat) (sz : Nat) (r : Int32) (ho : sX6_kind w a0 = some r) : Met l yX6_kind (ws_ yX6_kind cX6_kind 1 (some .int)) rmX6_kind (va_Pc [.ref (ad (102 + 10 * a0))] (MPre D vwCl (tysG g) (cellsX g ad w) (NXX sd (cellsX g ad w)) sz)) (QcI D vwCl (tysG g) (cellsX g ad w) r (va_A (cellsX g ad w) sz)) 0 0 (va_A (cellsX g ad w) sz) := by
  refine met_XJ (cw := cellsX g ad) (w := w) (cc := cX6_kind) (lv := [(0, .ref (ad (102 + 10 * a0)))]) pnX6 _ (Nat.le_of_ble_eq_true rfl) rfl ?_
  intro p e s m args below meth c R Q A B hN hr hsz hA hmm hRm hQ hAe
  have hX : NXA sd A s := by rw [hAe, ← hsz]; exact hN
  unfold sX6_kind at ho
  refine j_aload_n B eX6_kind_0 0 rfl ?_
  refine gfS B q280 eX6_kind_1 ho (fun v1 ho => ?_)
  exact j_iret B hr hQ eX6_kind_4 ho
def sX6_dislikes (w : Wd) (a0 : Nat) (a1 : Int32) : Option (Int32) :=
  rd (decide (a0 < w.1 1) && decide (w.1 (108 + 10 * a0) = 0)) (w.2.1 (102 + 10 * a0) 3) fun v1 => if a1 = v1 then (some (0 : Int32)) else (if a1 = (2 : Int32) then (some (3 : Int32)) else (some (2 : Int32)))
abbrev rmX6_dislikes : Room := { frames := 0, cells := 0, slots := 0, locals := 0 }
set_option maxHeartbeats 4000000 in
theorem met_X6_dislikes (l : Launch) (D : va_G) (g : Nat → ClassId) (ad sd : Nat → Nat) (w : Wd) (a0 : Nat) (a1 : Int32) (sz : Nat) (r : Int32) (ho : sX6_dislikes w a0 a1 = some r) : Met l yX6_dislikes (ws_ yX6_dislikes cX6_dislikes 2 (some .int)) rmX6_dislikes (va_Pc [.ref (ad (102 + 10 * a0)), .int a1] (MPre D vwCl (tysG g) (cellsX g ad w) (NXX sd (cellsX g ad w)) sz)) (QcI D vwCl (tysG g) (cellsX g ad w) r (va_A (cellsX g ad w) sz)) 0 0 (va_A (cellsX g ad w) sz) := by
  refine met_XJ (cw := cellsX g ad) (w := w) (cc := cX6_dislikes) (lv := [(0, .ref (ad (102 + 10 * a0))), (1, .int a1)]) pnX6 _ (Nat.le_of_ble_eq_true rfl) rfl ?_
  intro p e s m args below meth c R Q A B hN hr hsz hA hmm hRm hQ hAe
  have hX : NXA sd A s := by rw [hAe, ← hsz]; exact hN
  unfold sX6_dislikes at ho
  refine j_iload_n B eX6_dislikes_0 1 rfl ?_
  refine j_aload_n B eX6_dislikes_1 0 rfl ?_
  refine gfS B q280 eX6_dislikes_2 ho (fun v1 ho => ?_)
  refine j_icmp_ne B eX6_dislikes_5 ho (fun _ ho => ?_) (fun _ ho => ?_)
  · refine j_iload_n B eX6_dislikes_12 1 rfl ?_
    refine j_const B eX6_dislikes_13 ?_
    refine j_icmp_ne B eX6_dislikes_14 ho (fun _ ho => ?_) (fun _ ho => ?_)
    · refine j_const B eX6_dislikes_21 ?_
      exact j_iret B hr hQ eX6_dislikes_22 ho
    · refine j_const B eX6_dislikes_17 ?_
      refine j_goto B eX6_dislikes_18 ?_
      exact j_iret B hr hQ eX6_dislikes_22 ho
  · refine j_const B eX6_dislikes_8 ?_
    refine j_goto B eX6_dislikes_9 ?_
    exact j_iret B hr hQ eX6_dislikes_22 ho
section OR
variable {p : Program} {l : Launch} {e : Env} {R : Room} {s : State} {m : MethodId} {args : Array Value} {below : List Frame} {meth : Method} {c : Code} {cells slots : Nat} {Q : State → Prop} {A : Nat → Prop} {D : va_G} {g : Nat → ClassId} {sd : Nat → Nat} {ad : Nat → Nat} {nL : Nat} {cc : ByteArray}
variable {w : Wd} {pc pc' : Nat} {lv : List (Nat × Value)} {st : List Value} {ρ : Type} {res : ρ}
variable {own : String} {j index : Nat}
def sO_kind (w : Wd) (j : Nat) : Option Int32 := if w.1 (108 + 10 * j) = 0 then sX6_kind w j else if w.1 (108 + 10 * j) = 1 then sX3_kind w j else if w.1 (108 + 10 * j) = 2 then sX4_kind w j else sX5_kind w j
theorem cO_kind (B : Bd p s m args meth c cc nL RX0 D vwCl (tysG g)) (hA : ∀ q, s.heap.size ≤ q → A q) (hX : NXA sd A s) {rmc : Room} {f : Int32 → Option ρ} (hRm : R = rmc) (hR : 1 + 1 ≤ rmc.frames ∧ 8 + (1 + 11) + 20 ≤ rmc.locals) (hroom : (st.map fun v => v.category).sum ≤ 8) (hcs : cells ≤ R.cells ∧ slots ≤ R.slots) (hd : D3 cc pc (.invokevirtual 178) pc') (ho : gd (oOk w j) (bd (sO_kind w j) f) = some res) (k : ∀ (r : Int32), f r = some res → XJ p l e R s m args below meth c cells slots Q A D vwCl (cellsX g ad) nL w pc' lv (.int r :: st)) : XJ p l e R s m args below meth c cells slots Q A D vwCl (cellsX g ad) nL w pc lv (.ref (ad (102 + 10 * j)) :: st) := by
  obtain ⟨hg, ho⟩ := gd_e ho
  obtain ⟨hj, hc⟩ := oOk_e hg
  have hts := B.2.2.2.2.1
  unfold sO_kind at ho
  rcases hc with hc | hc | hc | hc
  · simp only [hc] at ho
    refine j_callUi (n := 0) (x := ⟨"DawnEights$Oar", "kind", "()I"⟩) (owner := "DawnEights$Oar") (As := []) (rm := rmX6_kind) B hA (met_X6_kind l D g ad sd w j) (NXX_ok hX) (cuX hts (hts _ q373) (hts _ q375) (va_Decl.abs (hX.1 _ nq374)) (hts _ q383) q384 q63 q385 rfl rfl (by decide +kernel) ⟨Nat.le_trans (Nat.le_of_ble_eq_true rfl) hR.1, Nat.le_trans (Nat.le_of_ble_eq_true rfl) hR.2⟩) _ (at_oarK hj hc) rfl hRm rfl rfl hroom hcs hd (by simpa using ho) k
  · simp only [hc] at ho
    refine j_callUi (n := 0) (x := ⟨"DawnEights$Oar", "kind", "()I"⟩) (owner := "DawnEights$Oar") (As := []) (rm := rmX3_kind) B hA (met_X3_kind l D g ad sd w j) (NXX_ok hX) (cuX hts (hts _ q373) (hts _ q375) (va_Decl.abs (hX.1 _ nq374)) (hts _ q376) q377 q60 q378 rfl rfl (by decide +kernel) ⟨Nat.le_trans (Nat.le_of_ble_eq_true rfl) hR.1, Nat.le_trans (Nat.le_of_ble_eq_true rfl) hR.2⟩) _ (at_oarK hj hc) rfl hRm rfl rfl hroom hcs hd (by simpa using ho) k
  · simp only [hc] at ho
    refine j_callUi (n := 0) (x := ⟨"DawnEights$Oar", "kind", "()I"⟩) (owner := "DawnEights$Oar") (As := []) (rm := rmX4_kind) B hA (met_X4_kind l D g ad sd w j) (NXX_ok hX) (cuX hts (hts _ q373) (hts _ q375) (va_Decl.abs (hX.1 _ nq374)) (hts _ q379) q380 q61 q381 rfl rfl (by decide +kernel) ⟨Nat.le_trans (Nat.le_of_ble_eq_true rfl) hR.1, Nat.le_trans (Nat.le_of_ble_eq_true rfl) hR.2⟩) _ (at_oarK hj hc) rfl hRm rfl rfl hroom hcs hd (by simpa using ho) k
  · simp only [hc] at ho
    refine j_callUi (n := 0) (x := ⟨"DawnEights$Oar", "kind", "()I"⟩) (owner := "DawnEights$Oar") (As := []) (rm := rmX5_kind) B hA (met_X5_kind l D g ad sd w j) (NXX_ok hX) (cuX hts (hts _ q373) (hts _ q375) (va_Decl.abs (hX.1 _ nq374)) (hts _ q386) q387 q62 q388 rfl rfl (by decide +kernel) ⟨Nat.le_trans (Nat.le_of_ble_eq_true rfl) hR.1, Nat.le_trans (Nat.le_of_ble_eq_true rfl) hR.2⟩) _ (at_oarK hj hc) rfl hRm rfl rfl hroom hcs hd (by simpa using ho) k
def sO_mayCox (w : Wd) (j : Nat) : Option Int32 := if w.1 (108 + 10 * j) = 0 then sX2_mayCox w j else if w.1 (108 + 10 * j) = 1 then sX2_mayCox w j else if w.1 (108 + 10 * j) = 2 then sX2_mayCox w j else sX2_mayCox w j
theorem cO_mayCox (B : Bd p s m args meth c cc nL RX0 D vwCl (tysG g)) (hA : ∀ q, s.heap.size ≤ q → A q) (hX : NXA sd A s) {rmc : Room} {f : Int32 → Option ρ} (hRm : R = rmc) (hR : 0 + 1 ≤ rmc.frames ∧ 8 + (1 + 11) + 0 ≤ rmc.locals) (hroom : (st.map fun v => v.category).sum ≤ 8) (hcs : cells ≤ R.cells ∧ slots ≤ R.slots) (hd : D3 cc pc (.invokevirtual 164) pc') (ho : gd (oOk w j) (bd (sO_mayCox w j) f) = some res) (k : ∀ (r : Int32), f r = some res → XJ p l e R s m args below meth c cells slots Q A D vwCl (cellsX g ad) nL w pc' lv (.int r :: st)) : XJ p l e R s m args below meth c cells slots Q A D vwCl (cellsX g ad) nL w pc lv (.ref (ad (102 + 10 * j)) :: st) := by
  obtain ⟨hg, ho⟩ := gd_e ho
  obtain ⟨hj, hc⟩ := oOk_e hg
  have hts := B.2.2.2.2.1
  unfold sO_mayCox at ho
  rcases hc with hc | hc | hc | hc
  · simp only [hc] at ho
    refine j_callUi (n := 0) (x := ⟨"DawnEights$Oar", "mayCox", "()Z"⟩) (owner := "DawnEights$Oar") (As := []) (rm := rmX2_mayCox) B hA (met_X2_mayCox l D g ad sd w j) (NXX_ok hX) (cuX hts (hts _ q349) (hts _ q351) (va_Decl.of (hts _ q350) (hts _ q356)) (hts _ q354) q350 q59 q356 rfl rfl (by decide +kernel) ⟨Nat.le_trans (Nat.le_of_ble_eq_true rfl) hR.1, Nat.le_trans (Nat.le_of_ble_eq_true rfl) hR.2⟩) _ (at_oarK hj hc) rfl hRm rfl rfl hroom hcs hd (by simpa using ho) k
  · simp only [hc] at ho
    refine j_callUi (n := 0) (x := ⟨"DawnEights$Oar", "mayCox", "()Z"⟩) (owner := "DawnEights$Oar") (As := []) (rm := rmX2_mayCox) B hA (met_X2_mayCox l D g ad sd w j) (NXX_ok hX) (cuX hts (hts _ q349) (hts _ q351) (va_Decl.of (hts _ q350) (hts _ q356)) (hts _ q352) q350 q59 q356 rfl rfl (by decide +kernel) ⟨Nat.le_trans (Nat.le_of_ble_eq_true rfl) hR.1, Nat.le_trans (Nat.le_of_ble_eq_true rfl) hR.2⟩) _ (at_oarK hj hc) rfl hRm rfl rfl hroom hcs hd (by simpa using ho) k
  · simp only [hc] at ho
    refine j_callUi (n := 0) (x := ⟨"DawnEights$Oar", "mayCox", "()Z"⟩) (owner := "DawnEights$Oar") (As := []) (rm := rmX2_mayCox) B hA (met_X2_mayCox l D g ad sd w j) (NXX_ok hX) (cuX hts (hts _ q349) (hts _ q351) (va_Decl.of (hts _ q350) (hts _ q356)) (hts _ q353) q350 q59 q356 rfl rfl (by decide +kernel) ⟨Nat.le_trans (Nat.le_of_ble_eq_true rfl) hR.1, Nat.le_trans (Nat.le_of_ble_eq_true rfl) hR.2⟩) _ (at_oarK hj hc) rfl hRm rfl rfl hroom hcs hd (by simpa using ho) k
  · simp only [hc] at ho
    refine j_callUi (n := 0) (x := ⟨"DawnEights$Oar", "mayCox", "()Z"⟩) (owner := "DawnEights$Oar") (As := []) (rm := rmX2_mayCox) B hA (met_X2_mayCox l D g ad sd w j) (NXX_ok hX) (cuX hts (hts _ q349) (hts _ q351) (va_Decl.of (hts _ q350) (hts _ q356)) (hts _ q355) q350 q59 q356 rfl rfl (by decide +kernel) ⟨Nat.le_trans (Nat.le_of_ble_eq_true rfl) hR.1, Nat.le_trans (Nat.le_of_ble_eq_true rfl) hR.2⟩) _ (at_oarK hj hc) rfl hRm rfl rfl hroom hcs hd (by simpa using ho) k
def sO_mayBeOut (w : Wd) (j : Nat) (a1 : Int32) : Option Int32 := if w.1 (108 + 10 * j) = 0 then sX2_mayBeOut w j a1 else if w.1 (108 + 10 * j) = 1 then sX2_mayBeOut w j a1 else if w.1 (108 + 10 * j) = 2 then sX2_mayBeOut w j a1 else sX5_mayBeOut w j a1
theorem cO_mayBeOut (B : Bd p s m args meth c cc nL RX0 D vwCl (tysG g)) (hA : ∀ q, s.heap.size ≤ q → A q) (hX : NXA sd A s) {rmc : Room} {a1 : Int32} {f : Int32 → Option ρ} (hRm : R = rmc) (hR : 1 + 1 ≤ rmc.frames ∧ 8 + (2 + 11) + 21 ≤ rmc.locals) (hroom : (st.map fun v => v.category).sum ≤ 8) (hcs : cells ≤ R.cells ∧ slots ≤ R.slots) (hd : D3 cc pc (.invokevirtual 197) pc') (ho : gd (oOk w j) (bd (sO_mayBeOut w j a1) f) = some res) (k : ∀ (r : Int32), f r = some res → XJ p l e R s m args below meth c cells slots Q A D vwCl (cellsX g ad) nL w pc' lv (.int r :: st)) : XJ p l e R s m args below meth c cells slots Q A D vwCl (cellsX g ad) nL w pc lv (.int a1 :: .ref (ad (102 + 10 * j)) :: st) := by
  obtain ⟨hg, ho⟩ := gd_e ho
  obtain ⟨hj, hc⟩ := oOk_e hg
  have hts := B.2.2.2.2.1
  unfold sO_mayBeOut at ho
  rcases hc with hc | hc | hc | hc
  · simp only [hc] at ho
    refine j_callUi (n := 1) (x := ⟨"DawnEights$Oar", "mayBeOut", "(I)Z"⟩) (owner := "DawnEights$Oar") (As := [.int a1]) (rm := rmX2_mayBeOut) B hA (met_X2_mayBeOut l D g ad sd w j a1) (NXX_ok hX) (cuX hts (hts _ q474) (hts _ q476) (va_Decl.of (hts _ q475) (hts _ q486)) (hts _ q479) q475 q59 q486 rfl rfl (by decide +kernel) ⟨Nat.le_trans (Nat.le_of_ble_eq_true rfl) hR.1, Nat.le_trans (Nat.le_of_ble_eq_true rfl) hR.2⟩) _ (at_oarK hj hc) rfl hRm rfl rfl hroom hcs hd (by simpa using ho) k
  · simp only [hc] at ho
    refine j_callUi (n := 1) (x := ⟨"DawnEights$Oar", "mayBeOut", "(I)Z"⟩) (owner := "DawnEights$Oar") (As := [.int a1]) (rm := rmX2_mayBeOut) B hA (met_X2_mayBeOut l D g ad sd w j a1) (NXX_ok hX) (cuX hts (hts _ q474) (hts _ q476) (va_Decl.of (hts _ q475) (hts _ q486)) (hts _ q477) q475 q59 q486 rfl rfl (by decide +kernel) ⟨Nat.le_trans (Nat.le_of_ble_eq_true rfl) hR.1, Nat.le_trans (Nat.le_of_ble_eq_true rfl) hR.2⟩) _ (at_oarK hj hc) rfl hRm rfl rfl hroom hcs hd (by simpa using ho) k
  · simp only [hc] at ho
    refine j_callUi (n := 1) (x := ⟨"DawnEights$Oar", "mayBeOut", "(I)Z"⟩) (owner := "DawnEights$Oar") (As := [.int a1]) (rm := rmX2_mayBeOut) B hA (met_X2_mayBeOut l D g ad sd w j a1) (NXX_ok hX) (cuX hts (hts _ q474) (hts _ q476) (va_Decl.of (hts _ q475) (hts _ q486)) (hts _ q478) q475 q59 q486 rfl rfl (by decide +kernel) ⟨Nat.le_trans (Nat.le_of_ble_eq_true rfl) hR.1, Nat.le_trans (Nat.le_of_ble_eq_true rfl) hR.2⟩) _ (at_oarK hj hc) rfl hRm rfl rfl hroom hcs hd (by simpa using ho) k
  · simp only [hc] at ho
    refine j_callUi (n := 1) (x := ⟨"DawnEights$Oar", "mayBeOut", "(I)Z"⟩) (owner := "DawnEights$Oar") (As := [.int a1]) (rm := rmX5_mayBeOut) B hA (met_X5_mayBeOut l D g ad sd w j a1) (NXX_ok hX) (cuX hts (hts _ q474) (hts _ q476) (va_Decl.of (hts _ q475) (hts _ q486)) (hts _ q480) q481 q62 q482 rfl rfl (by decide +kernel) ⟨Nat.le_trans (Nat.le_of_ble_eq_true rfl) hR.1, Nat.le_trans (Nat.le_of_ble_eq_true rfl) hR.2⟩) _ (at_oarK hj hc) rfl hRm rfl rfl hroom hcs hd (by simpa using ho) k
def sO_isYoung (w : Wd) (j : Nat) : Option Int32 := if w.1 (108 + 10 * j) = 0 then sX2_isYoung w j else if w.1 (108 + 10 * j) = 1 then sX2_isYoung w j else if w.1 (108 + 10 * j) = 2 then sX2_isYoung w j else sX5_isYoung w j
theorem cO_isYoung (B : Bd p s m args meth c cc nL RX0 D vwCl (tysG g)) (hA : ∀ q, s.heap.size ≤ q → A q) (hX : NXA sd A s) {rmc : Room} {f : Int32 → Option ρ} (hRm : R = rmc) (hR : 0 + 1 ≤ rmc.frames ∧ 8 + (1 + 11) + 0 ≤ rmc.locals) (hroom : (st.map fun v => v.category).sum ≤ 8) (hcs : cells ≤ R.cells ∧ slots ≤ R.slots) (hd : D3 cc pc (.invokevirtual 200) pc') (ho : gd (oOk w j) (bd (sO_isYoung w j) f) = some res) (k : ∀ (r : Int32), f r = some res → XJ p l e R s m args below meth c cells slots Q A D vwCl (cellsX g ad) nL w pc' lv (.int r :: st)) : XJ p l e R s m args below meth c cells slots Q A D vwCl (cellsX g ad) nL w pc lv (.ref (ad (102 + 10 * j)) :: st) := by
  obtain ⟨hg, ho⟩ := gd_e ho
  obtain ⟨hj, hc⟩ := oOk_e hg
  have hts := B.2.2.2.2.1
  unfold sO_isYoung at ho
  rcases hc with hc | hc | hc | hc
  · simp only [hc] at ho
    refine j_callUi (n := 0) (x := ⟨"DawnEights$Oar", "isYoung", "()Z"⟩) (owner := "DawnEights$Oar") (As := []) (rm := rmX2_isYoung) B hA (met_X2_isYoung l D g ad sd w j) (NXX_ok hX) (cuX hts (hts _ q660) (hts _ q662) (va_Decl.of (hts _ q661) (hts _ q669)) (hts _ q665) q661 q59 q669 rfl rfl (by decide +kernel) ⟨Nat.le_trans (Nat.le_of_ble_eq_true rfl) hR.1, Nat.le_trans (Nat.le_of_ble_eq_true rfl) hR.2⟩) _ (at_oarK hj hc) rfl hRm rfl rfl hroom hcs hd (by simpa using ho) k
  · simp only [hc] at ho
    refine j_callUi (n := 0) (x := ⟨"DawnEights$Oar", "isYoung", "()Z"⟩) (owner := "DawnEights$Oar") (As := []) (rm := rmX2_isYoung) B hA (met_X2_isYoung l D g ad sd w j) (NXX_ok hX) (cuX hts (hts _ q660) (hts _ q662) (va_Decl.of (hts _ q661) (hts _ q669)) (hts _ q663) q661 q59 q669 rfl rfl (by decide +kernel) ⟨Nat.le_trans (Nat.le_of_ble_eq_true rfl) hR.1, Nat.le_trans (Nat.le_of_ble_eq_true rfl) hR.2⟩) _ (at_oarK hj hc) rfl hRm rfl rfl hroom hcs hd (by simpa using ho) k
  · simp only [hc] at ho
    refine j_callUi (n := 0) (x := ⟨"DawnEights$Oar", "isYoung", "()Z"⟩) (owner := "DawnEights$Oar") (As := []) (rm := rmX2_isYoung) B hA (met_X2_isYoung l D g ad sd w j) (NXX_ok hX) (cuX hts (hts _ q660) (hts _ q662) (va_Decl.of (hts _ q661) (hts _ q669)) (hts _ q664) q661 q59 q669 rfl rfl (by decide +kernel) ⟨Nat.le_trans (Nat.le_of_ble_eq_true rfl) hR.1, Nat.le_trans (Nat.le_of_ble_eq_true rfl) hR.2⟩) _ (at_oarK hj hc) rfl hRm rfl rfl hroom hcs hd (by simpa using ho) k
  · simp only [hc] at ho
    refine j_callUi (n := 0) (x := ⟨"DawnEights$Oar", "isYoung", "()Z"⟩) (owner := "DawnEights$Oar") (As := []) (rm := rmX5_isYoung) B hA (met_X5_isYoung l D g ad sd w j) (NXX_ok hX) (cuX hts (hts _ q660) (hts _ q662) (va_Decl.of (hts _ q661) (hts _ q669)) (hts _ q666) q667 q62 q668 rfl rfl (by decide +kernel) ⟨Nat.le_trans (Nat.le_of_ble_eq_true rfl) hR.1, Nat.le_trans (Nat.le_of_ble_eq_true rfl) hR.2⟩) _ (at_oarK hj hc) rfl hRm rfl rfl hroom hcs hd (by simpa using ho) k
def sO_dislikes (w : Wd) (j : Nat) (a1 : Int32) : Option Int32 := if w.1 (108 + 10 * j) = 0 then sX6_dislikes w j a1 else if w.1 (108 + 10 * j) = 1 then sX3_dislikes w j a1 else if w.1 (108 + 10 * j) = 2 then sX4_dislikes w j a1 else sX3_dislikes w j a1
theorem cO_dislikes (B : Bd p s m args meth c cc nL RX0 D vwCl (tysG g)) (hA : ∀ q, s.heap.size ≤ q → A q) (hX : NXA sd A s) {rmc : Room} {a1 : Int32} {f : Int32 → Option ρ} (hRm : R = rmc) (hR : 1 + 1 ≤ rmc.frames ∧ 8 + (2 + 11) + 21 ≤ rmc.locals) (hroom : (st.map fun v => v.category).sum ≤ 8) (hcs : cells ≤ R.cells ∧ slots ≤ R.slots) (hd : D3 cc pc (.invokevirtual 262) pc') (ho : gd (oOk w j) (bd (sO_dislikes w j a1) f) = some res) (k : ∀ (r : Int32), f r = some res → XJ p l e R s m args below meth c cells slots Q A D vwCl (cellsX g ad) nL w pc' lv (.int r :: st)) : XJ p l e R s m args below meth c cells slots Q A D vwCl (cellsX g ad) nL w pc lv (.int a1 :: .ref (ad (102 + 10 * j)) :: st) := by
  obtain ⟨hg, ho⟩ := gd_e ho
  obtain ⟨hj, hc⟩ := oOk_e hg
  have hts := B.2.2.2.2.1
  unfold sO_dislikes at ho
  rcases hc with hc | hc | hc | hc
  · simp only [hc] at ho
    refine j_callUi (n := 1) (x := ⟨"DawnEights$Oar", "dislikes", "(I)I"⟩) (owner := "DawnEights$Rows") (As := [.int a1]) (rm := rmX6_dislikes) B hA (met_X6_dislikes l D g ad sd w j a1) (NXX_ok hX) (cuX hts (va_Nw.use rfl (hX.1 _ nqx0)) (va_Nw.use rfl (hX.1 _ nqx1)) (va_Decl.abs (hX.1 _ nq496)) (sel_up (hts _ q504) (va_Nw.use rfl (hX.1 _ nqx1)) rfl (by decide)) q505 q63 q506 rfl rfl (by decide +kernel) ⟨Nat.le_trans (Nat.le_of_ble_eq_true rfl) hR.1, Nat.le_trans (Nat.le_of_ble_eq_true rfl) hR.2⟩) _ (at_oarK hj hc) rfl hRm rfl rfl hroom hcs hd (by simpa using ho) k
  · simp only [hc] at ho
    refine j_callUi (n := 1) (x := ⟨"DawnEights$Oar", "dislikes", "(I)I"⟩) (owner := "DawnEights$Rows") (As := [.int a1]) (rm := rmX3_dislikes) B hA (met_X3_dislikes l D g ad sd w j a1) (NXX_ok hX) (cuX hts (va_Nw.use rfl (hX.1 _ nqx0)) (va_Nw.use rfl (hX.1 _ nqx1)) (va_Decl.abs (hX.1 _ nq496)) (sel_up (hts _ q497) (va_Nw.use rfl (hX.1 _ nqx1)) rfl (by decide)) q498 q60 q499 rfl rfl (by decide +kernel) ⟨Nat.le_trans (Nat.le_of_ble_eq_true rfl) hR.1, Nat.le_trans (Nat.le_of_ble_eq_true rfl) hR.2⟩) _ (at_oarK hj hc) rfl hRm rfl rfl hroom hcs hd (by simpa using ho) k
  · simp only [hc] at ho
    refine j_callUi (n := 1) (x := ⟨"DawnEights$Oar", "dislikes", "(I)I"⟩) (owner := "DawnEights$Rows") (As := [.int a1]) (rm := rmX4_dislikes) B hA (met_X4_dislikes l D g ad sd w j a1) (NXX_ok hX) (cuX hts (va_Nw.use rfl (hX.1 _ nqx0)) (va_Nw.use rfl (hX.1 _ nqx1)) (va_Decl.abs (hX.1 _ nq496)) (sel_up (hts _ q500) (va_Nw.use rfl (hX.1 _ nqx1)) rfl (by decide)) q501 q61 q502 rfl rfl (by decide +kernel) ⟨Nat.le_trans (Nat.le_of_ble_eq_true rfl) hR.1, Nat.le_trans (Nat.le_of_ble_eq_true rfl) hR.2⟩) _ (at_oarK hj hc) rfl hRm rfl rfl hroom hcs hd (by simpa using ho) k
  · simp only [hc] at ho
    refine j_callUi (n := 1) (x := ⟨"DawnEights$Oar", "dislikes", "(I)I"⟩) (owner := "DawnEights$Rows") (As := [.int a1]) (rm := rmX3_dislikes) B hA (met_X3_dislikes l D g ad sd w j a1) (NXX_ok hX) (cuX hts (va_Nw.use rfl (hX.1 _ nqx0)) (va_Nw.use rfl (hX.1 _ nqx1)) (va_Decl.abs (hX.1 _ nq496)) (sel_up (hts _ q507) (va_Nw.use rfl (hX.1 _ nqx1)) rfl (by decide)) q498 q60 q499 rfl rfl (by decide +kernel) ⟨Nat.le_trans (Nat.le_of_ble_eq_true rfl) hR.1, Nat.le_trans (Nat.le_of_ble_eq_true rfl) hR.2⟩) _ (at_oarK hj hc) rfl hRm rfl rfl hroom hcs hd (by simpa using ho) k
end OR
