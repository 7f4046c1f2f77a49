set_option maxRecDepth 100000
theorem eX0_water_0 : D1 cX0_water 0 (.iload_n 1) 1 := ⟨by decide +kernel, rfl⟩
theorem eX0_water_1 : D1 cX0_water 1 (.i2l) 2 := ⟨by decide +kernel, rfl⟩
theorem eX0_water_2 : D1 cX0_water 2 (.lconst 0) 3 := ⟨by decide +kernel, rfl⟩
theorem eX0_water_3 : D3 cX0_water 3 (.ldc2_w 283) 6 := ⟨by decide +kernel, rfl⟩
theorem eX0_water_6 : D3 cX0_water 6 (.invokestatic 103) 9 := ⟨by decide +kernel, rfl⟩
theorem eX0_water_9 : DJ cX0_water 9 (.ifCond .ne) 14 12 := ⟨5, by decide +kernel, by decide, rfl⟩
theorem eX0_water_12 : DC cX0_water 12 (-1) 13 := Or.inl ⟨-1, ⟨by decide +kernel, rfl⟩, by decide⟩
theorem eX0_water_13 : D1 cX0_water 13 (.ireturn) 14 := ⟨by decide +kernel, rfl⟩
theorem eX0_water_14 : D1 cX0_water 14 (.iload_n 2) 15 := ⟨by decide +kernel, rfl⟩
theorem eX0_water_15 : D1 cX0_water 15 (.i2l) 16 := ⟨by decide +kernel, rfl⟩
theorem eX0_water_16 : D1 cX0_water 16 (.lconst 0) 17 := ⟨by decide +kernel, rfl⟩
theorem eX0_water_17 : D3 cX0_water 17 (.ldc2_w 285) 20 := ⟨by decide +kernel, rfl⟩
theorem eX0_water_20 : D3 cX0_water 20 (.invokestatic 103) 23 := ⟨by decide +kernel, rfl⟩
theorem eX0_water_23 : DJ cX0_water 23 (.ifCond .eq) 38 26 := ⟨15, by decide +kernel, by decide, rfl⟩
theorem eX0_water_26 : D1 cX0_water 26 (.iload_n 3) 27 := ⟨by decide +kernel, rfl⟩
theorem eX0_water_27 : D1 cX0_water 27 (.i2l) 28 := ⟨by decide +kernel, rfl⟩
theorem eX0_water_28 : D1 cX0_water 28 (.lconst 0) 29 := ⟨by decide +kernel, rfl⟩
theorem eX0_water_29 : D3 cX0_water 29 (.ldc2_w 287) 32 := ⟨by decide +kernel, rfl⟩
theorem eX0_water_32 : D3 cX0_water 32 (.invokestatic 103) 35 := ⟨by decide +kernel, rfl⟩
theorem eX0_water_35 : DJ cX0_water 35 (.ifCond .ne) 41 38 := ⟨6, by decide +kernel, by decide, rfl⟩
theorem eX0_water_38 : DC cX0_water 38 (-2) 40 := Or.inr (Or.inl ⟨-2, ⟨by decide +kernel, rfl⟩, by decide⟩)
theorem eX0_water_40 : D1 cX0_water 40 (.ireturn) 41 := ⟨by decide +kernel, rfl⟩
theorem eX0_water_41 : D1 cX0_water 41 (.aload_n 0) 42 := ⟨by decide +kernel, rfl⟩
theorem eX0_water_42 : D3 cX0_water 42 (.getfield 49) 45 := ⟨by decide +kernel, rfl⟩
theorem eX0_water_45 : D1 cX0_water 45 (.iload_n 1) 46 := ⟨by decide +kernel, rfl⟩
theorem eX0_water_46 : D1 cX0_water 46 (.iload_n 2) 47 := ⟨by decide +kernel, rfl⟩
theorem eX0_water_47 : D1 cX0_water 47 (.iastore) 48 := ⟨by decide +kernel, rfl⟩
theorem eX0_water_48 : D1 cX0_water 48 (.aload_n 0) 49 := ⟨by decide +kernel, rfl⟩
theorem eX0_water_49 : D3 cX0_water 49 (.getfield 52) 52 := ⟨by decide +kernel, rfl⟩
theorem eX0_water_52 : D1 cX0_water 52 (.iload_n 1) 53 := ⟨by decide +kernel, rfl⟩
theorem eX0_water_53 : D1 cX0_water 53 (.iload_n 3) 54 := ⟨by decide +kernel, rfl⟩
theorem eX0_water_54 : D1 cX0_water 54 (.iastore) 55 := ⟨by decide +kernel, rfl⟩
theorem eX0_water_55 : DC cX0_water 55 (0) 56 := Or.inl ⟨0, ⟨by decide +kernel, rfl⟩, by decide⟩
theorem eX0_water_56 : D1 cX0_water 56 (.ireturn) 57 := ⟨by decide +kernel, rfl⟩
theorem eX0_feed_0 : D1 cX0_feed 0 (.iload_n 3) 1 := ⟨by decide +kernel, rfl⟩
theorem eX0_feed_1 : D1 cX0_feed 1 (.i2l) 2 := ⟨by decide +kernel, rfl⟩
theorem eX0_feed_2 : D1 cX0_feed 2 (.lconst 1) 3 := ⟨by decide +kernel, rfl⟩
theorem eX0_feed_3 : D3 cX0_feed 3 (.ldc2_w 289) 6 := ⟨by decide +kernel, rfl⟩
theorem eX0_feed_6 : D3 cX0_feed 6 (.invokestatic 103) 9 := ⟨by decide +kernel, rfl⟩
theorem eX0_feed_9 : DJ cX0_feed 9 (.ifCond .ne) 15 12 := ⟨6, by decide +kernel, by decide, rfl⟩
theorem eX0_feed_12 : DC cX0_feed 12 (-2) 14 := Or.inr (Or.inl ⟨-2, ⟨by decide +kernel, rfl⟩, by decide⟩)
theorem eX0_feed_14 : D1 cX0_feed 14 (.ireturn) 15 := ⟨by decide +kernel, rfl⟩
theorem eX0_feed_15 : D1 cX0_feed 15 (.aload_n 0) 16 := ⟨by decide +kernel, rfl⟩
theorem eX0_feed_16 : D3 cX0_feed 16 (.getfield 291) 19 := ⟨by decide +kernel, rfl⟩
theorem eX0_feed_19 : D1 cX0_feed 19 (.iload_n 3) 20 := ⟨by decide +kernel, rfl⟩
theorem eX0_feed_20 : D1 cX0_feed 20 (.iadd) 21 := ⟨by decide +kernel, rfl⟩
theorem eX0_feed_21 : DC cX0_feed 21 (120) 23 := Or.inr (Or.inl ⟨120, ⟨by decide +kernel, rfl⟩, by decide⟩)
theorem eX0_feed_23 : DJ cX0_feed 23 (.if_icmp .le) 29 26 := ⟨6, by decide +kernel, by decide, rfl⟩
theorem eX0_feed_26 : DC cX0_feed 26 (-4) 28 := Or.inr (Or.inl ⟨-4, ⟨by decide +kernel, rfl⟩, by decide⟩)
theorem eX0_feed_28 : D1 cX0_feed 28 (.ireturn) 29 := ⟨by decide +kernel, rfl⟩
theorem eX0_feed_29 : D1 cX0_feed 29 (.iload_n 3) 30 := ⟨by decide +kernel, rfl⟩
theorem eX0_feed_30 : DC cX0_feed 30 (1) 31 := Or.inl ⟨1, ⟨by decide +kernel, rfl⟩, by decide⟩
theorem eX0_feed_31 : D1 cX0_feed 31 (.isub) 32 := ⟨by decide +kernel, rfl⟩
theorem eX0_feed_32 : D2 cX0_feed 32 (.istore 4) 34 := ⟨by decide +kernel, rfl⟩
theorem eX0_feed_34 : D2 cX0_feed 34 (.iload 4) 36 := ⟨by decide +kernel, rfl⟩
theorem eX0_feed_36 : DJ cX0_feed 36 (.ifCond .lt) 73 39 := ⟨37, by decide +kernel, by decide, rfl⟩
theorem eX0_feed_39 : D1 cX0_feed 39 (.aload_n 0) 40 := ⟨by decide +kernel, rfl⟩
theorem eX0_feed_40 : D3 cX0_feed 40 (.getfield 61) 43 := ⟨by decide +kernel, rfl⟩
theorem eX0_feed_43 : D1 cX0_feed 43 (.aload_n 0) 44 := ⟨by decide +kernel, rfl⟩
theorem eX0_feed_44 : D3 cX0_feed 44 (.getfield 291) 47 := ⟨by decide +kernel, rfl⟩
theorem eX0_feed_47 : D1 cX0_feed 47 (.lload_n 1) 48 := ⟨by decide +kernel, rfl⟩
theorem eX0_feed_48 : DC cX0_feed 48 (8) 50 := Or.inr (Or.inl ⟨8, ⟨by decide +kernel, rfl⟩, by decide⟩)
theorem eX0_feed_50 : D2 cX0_feed 50 (.iload 4) 52 := ⟨by decide +kernel, rfl⟩
theorem eX0_feed_52 : D1 cX0_feed 52 (.imul) 53 := ⟨by decide +kernel, rfl⟩
theorem eX0_feed_53 : D1 cX0_feed 53 (.lshr) 54 := ⟨by decide +kernel, rfl⟩
theorem eX0_feed_54 : D1 cX0_feed 54 (.l2i) 55 := ⟨by decide +kernel, rfl⟩
theorem eX0_feed_55 : D1 cX0_feed 55 (.i2b) 56 := ⟨by decide +kernel, rfl⟩
theorem eX0_feed_56 : D1 cX0_feed 56 (.bastore) 57 := ⟨by decide +kernel, rfl⟩
theorem eX0_feed_57 : D1 cX0_feed 57 (.aload_n 0) 58 := ⟨by decide +kernel, rfl⟩
theorem eX0_feed_58 : D1 cX0_feed 58 (.dup) 59 := ⟨by decide +kernel, rfl⟩
theorem eX0_feed_59 : D3 cX0_feed 59 (.getfield 291) 62 := ⟨by decide +kernel, rfl⟩
theorem eX0_feed_62 : DC cX0_feed 62 (1) 63 := Or.inl ⟨1, ⟨by decide +kernel, rfl⟩, by decide⟩
theorem eX0_feed_63 : D1 cX0_feed 63 (.iadd) 64 := ⟨by decide +kernel, rfl⟩
theorem eX0_feed_64 : D3 cX0_feed 64 (.putfield 291) 67 := ⟨by decide +kernel, rfl⟩
theorem eX0_feed_67 : D3 cX0_feed 67 (.iinc 4 (-1)) 70 := ⟨by decide +kernel, rfl⟩
theorem eX0_feed_70 : DJ cX0_feed 70 .goto 34 73 := ⟨-36, by decide +kernel, by decide, rfl⟩
theorem eX0_feed_73 : D1 cX0_feed 73 (.aload_n 0) 74 := ⟨by decide +kernel, rfl⟩
theorem eX0_feed_74 : D3 cX0_feed 74 (.getfield 291) 77 := ⟨by decide +kernel, rfl⟩
theorem eX0_feed_77 : D1 cX0_feed 77 (.ireturn) 78 := ⟨by decide +kernel, rfl⟩
theorem eX0_now_0 : D1 cX0_now 0 (.aload_n 0) 1 := ⟨by decide +kernel, rfl⟩
theorem eX0_now_1 : D3 cX0_now 1 (.getfield 294) 4 := ⟨by decide +kernel, rfl⟩
theorem eX0_now_4 : D1 cX0_now 4 (.aload_n 0) 5 := ⟨by decide +kernel, rfl⟩
theorem eX0_now_5 : D3 cX0_now 5 (.getfield 291) 8 := ⟨by decide +kernel, rfl⟩
theorem eX0_now_8 : DJ cX0_now 8 (.if_icmp .ge) 27 11 := ⟨19, by decide +kernel, by decide, rfl⟩
theorem eX0_now_11 : D1 cX0_now 11 (.aload_n 0) 12 := ⟨by decide +kernel, rfl⟩
theorem eX0_now_12 : D3 cX0_now 12 (.getfield 61) 15 := ⟨by decide +kernel, rfl⟩
theorem eX0_now_15 : D1 cX0_now 15 (.aload_n 0) 16 := ⟨by decide +kernel, rfl⟩
theorem eX0_now_16 : D3 cX0_now 16 (.getfield 294) 19 := ⟨by decide +kernel, rfl⟩
theorem eX0_now_19 : D1 cX0_now 19 (.baload) 20 := ⟨by decide +kernel, rfl⟩
theorem eX0_now_20 : DC cX0_now 20 (255) 23 := Or.inr (Or.inr ⟨255, ⟨by decide +kernel, rfl⟩, by decide⟩)
theorem eX0_now_23 : D1 cX0_now 23 (.iand) 24 := ⟨by decide +kernel, rfl⟩
theorem eX0_now_24 : DJ cX0_now 24 .goto 28 27 := ⟨4, by decide +kernel, by decide, rfl⟩
theorem eX0_now_27 : DC cX0_now 27 (-1) 28 := Or.inl ⟨-1, ⟨by decide +kernel, rfl⟩, by decide⟩
theorem eX0_now_28 : D1 cX0_now 28 (.ireturn) 29 := ⟨by decide +kernel, rfl⟩
theorem eX0_hasYoung_0 : DC cX0_hasYoung 0 (0) 1 := Or.inl ⟨0, ⟨by decide +kernel, rfl⟩, by decide⟩
theorem eX0_hasYoung_1 : D1 cX0_hasYoung 1 (.istore_n 2) 2 := ⟨by decide +kernel, rfl⟩
theorem eX0_hasYoung_2 : DC cX0_hasYoung 2 (0) 3 := Or.inl ⟨0, ⟨by decide +kernel, rfl⟩, by decide⟩
theorem eX0_hasYoung_3 : D1 cX0_hasYoung 3 (.istore_n 3) 4 := ⟨by decide +kernel, rfl⟩
theorem eX0_hasYoung_4 : D1 cX0_hasYoung 4 (.iload_n 3) 5 := ⟨by decide +kernel, rfl⟩
theorem eX0_hasYoung_5 : DC cX0_hasYoung 5 (8) 7 := Or.inr (Or.inl ⟨8, ⟨by decide +kernel, rfl⟩, by decide⟩)
theorem eX0_hasYoung_7 : DJ cX0_hasYoung 7 (.if_icmp .gt) 51 10 := ⟨44, by decide +kernel, by decide, rfl⟩
theorem eX0_hasYoung_10 : D1 cX0_hasYoung 10 (.iload_n 2) 11 := ⟨by decide +kernel, rfl⟩
theorem eX0_hasYoung_11 : D1 cX0_hasYoung 11 (.aload_n 1) 12 := ⟨by decide +kernel, rfl⟩
theorem eX0_hasYoung_12 : D3 cX0_hasYoung 12 (.getfield 167) 15 := ⟨by decide +kernel, rfl⟩
theorem eX0_hasYoung_15 : D1 cX0_hasYoung 15 (.iload_n 3) 16 := ⟨by decide +kernel, rfl⟩
theorem eX0_hasYoung_16 : D1 cX0_hasYoung 16 (.iaload) 17 := ⟨by decide +kernel, rfl⟩
theorem eX0_hasYoung_17 : DC cX0_hasYoung 17 (-1) 18 := Or.inl ⟨-1, ⟨by decide +kernel, rfl⟩, by decide⟩
theorem eX0_hasYoung_18 : DJ cX0_hasYoung 18 (.if_icmp .eq) 42 21 := ⟨24, by decide +kernel, by decide, rfl⟩
theorem eX0_hasYoung_21 : D1 cX0_hasYoung 21 (.aload_n 0) 22 := ⟨by decide +kernel, rfl⟩
theorem eX0_hasYoung_22 : D3 cX0_hasYoung 22 (.getfield 13) 25 := ⟨by decide +kernel, rfl⟩
theorem eX0_hasYoung_25 : D1 cX0_hasYoung 25 (.aload_n 1) 26 := ⟨by decide +kernel, rfl⟩
theorem eX0_hasYoung_26 : D3 cX0_hasYoung 26 (.getfield 167) 29 := ⟨by decide +kernel, rfl⟩
theorem eX0_hasYoung_29 : D1 cX0_hasYoung 29 (.iload_n 3) 30 := ⟨by decide +kernel, rfl⟩
theorem eX0_hasYoung_30 : D1 cX0_hasYoung 30 (.iaload) 31 := ⟨by decide +kernel, rfl⟩
theorem eX0_hasYoung_31 : D1 cX0_hasYoung 31 (.aaload) 32 := ⟨by decide +kernel, rfl⟩
theorem eX0_hasYoung_32 : D3 cX0_hasYoung 32 (.invokevirtual 200) 35 := ⟨by decide +kernel, rfl⟩
theorem eX0_hasYoung_35 : DJ cX0_hasYoung 35 (.ifCond .eq) 42 38 := ⟨7, by decide +kernel, by decide, rfl⟩
theorem eX0_hasYoung_38 : DC cX0_hasYoung 38 (1) 39 := Or.inl ⟨1, ⟨by decide +kernel, rfl⟩, by decide⟩
theorem eX0_hasYoung_39 : DJ cX0_hasYoung 39 .goto 43 42 := ⟨4, by decide +kernel, by decide, rfl⟩
theorem eX0_hasYoung_42 : DC cX0_hasYoung 42 (0) 43 := Or.inl ⟨0, ⟨by decide +kernel, rfl⟩, by decide⟩
theorem eX0_hasYoung_43 : D1 cX0_hasYoung 43 (.ior) 44 := ⟨by decide +kernel, rfl⟩
theorem eX0_hasYoung_44 : D1 cX0_hasYoung 44 (.istore_n 2) 45 := ⟨by decide +kernel, rfl⟩
theorem eX0_hasYoung_45 : D3 cX0_hasYoung 45 (.iinc 3 1) 48 := ⟨by decide +kernel, rfl⟩
theorem eX0_hasYoung_48 : DJ cX0_hasYoung 48 .goto 4 51 := ⟨-44, by decide +kernel, by decide, rfl⟩
theorem eX0_hasYoung_51 : D1 cX0_hasYoung 51 (.iload_n 2) 52 := ⟨by decide +kernel, rfl⟩
theorem eX0_hasYoung_52 : D1 cX0_hasYoung 52 (.ireturn) 53 := ⟨by decide +kernel, rfl⟩
theorem eX8_value_0 : D1 cX8_value 0 (.iload_n 1) 1 := ⟨by decide +kernel, rfl⟩
theorem eX8_value_1 : decode cX8_value 1 = .ok (.tableswitch 115 0 5 #[39, 58, 77, 79, 93, 98], 39) := by decide +kernel
theorem eX8_value_40 : D1 cX8_value 40 (.aload_n 0) 41 := ⟨by decide +kernel, rfl⟩
theorem eX8_value_41 : D3 cX8_value 41 (.getfield 3) 44 := ⟨by decide +kernel, rfl⟩
theorem eX8_value_44 : D3 cX8_value 44 (.getfield 43) 47 := ⟨by decide +kernel, rfl⟩
theorem eX8_value_47 : D1 cX8_value 47 (.aload_n 0) 48 := ⟨by decide +kernel, rfl⟩
theorem eX8_value_48 : D3 cX8_value 48 (.getfield 3) 51 := ⟨by decide +kernel, rfl⟩
theorem eX8_value_51 : D3 cX8_value 51 (.getfield 46) 54 := ⟨by decide +kernel, rfl⟩
theorem eX8_value_54 : DC cX8_value 54 (30) 56 := Or.inr (Or.inl ⟨30, ⟨by decide +kernel, rfl⟩, by decide⟩)
theorem eX8_value_56 : D1 cX8_value 56 (.irem) 57 := ⟨by decide +kernel, rfl⟩
theorem eX8_value_57 : D1 cX8_value 57 (.iaload) 58 := ⟨by decide +kernel, rfl⟩
theorem eX8_value_58 : D1 cX8_value 58 (.ireturn) 59 := ⟨by decide +kernel, rfl⟩
theorem eX8_value_59 : D1 cX8_value 59 (.aload_n 0) 60 := ⟨by decide +kernel, rfl⟩
theorem eX8_value_60 : D3 cX8_value 60 (.getfield 3) 63 := ⟨by decide +kernel, rfl⟩
theorem eX8_value_63 : D3 cX8_value 63 (.getfield 49) 66 := ⟨by decide +kernel, rfl⟩
theorem eX8_value_66 : D1 cX8_value 66 (.aload_n 0) 67 := ⟨by decide +kernel, rfl⟩
theorem eX8_value_67 : D3 cX8_value 67 (.getfield 3) 70 := ⟨by decide +kernel, rfl⟩
theorem eX8_value_70 : D3 cX8_value 70 (.getfield 46) 73 := ⟨by decide +kernel, rfl⟩
theorem eX8_value_73 : DC cX8_value 73 (30) 75 := Or.inr (Or.inl ⟨30, ⟨by decide +kernel, rfl⟩, by decide⟩)
theorem eX8_value_75 : D1 cX8_value 75 (.irem) 76 := ⟨by decide +kernel, rfl⟩
theorem eX8_value_76 : D1 cX8_value 76 (.iaload) 77 := ⟨by decide +kernel, rfl⟩
theorem eX8_value_77 : D1 cX8_value 77 (.ireturn) 78 := ⟨by decide +kernel, rfl⟩
theorem eX8_value_78 : D1 cX8_value 78 (.iload_n 3) 79 := ⟨by decide +kernel, rfl⟩
theorem eX8_value_79 : D1 cX8_value 79 (.ireturn) 80 := ⟨by decide +kernel, rfl⟩
theorem eX8_value_80 : D1 cX8_value 80 (.aload_n 0) 81 := ⟨by decide +kernel, rfl⟩
theorem eX8_value_81 : D3 cX8_value 81 (.getfield 3) 84 := ⟨by decide +kernel, rfl⟩
theorem eX8_value_84 : D3 cX8_value 84 (.getfield 46) 87 := ⟨by decide +kernel, rfl⟩
theorem eX8_value_87 : DC cX8_value 87 (30) 89 := Or.inr (Or.inl ⟨30, ⟨by decide +kernel, rfl⟩, by decide⟩)
theorem eX8_value_89 : D1 cX8_value 89 (.idiv) 90 := ⟨by decide +kernel, rfl⟩
theorem eX8_value_90 : DC cX8_value 90 (12) 92 := Or.inr (Or.inl ⟨12, ⟨by decide +kernel, rfl⟩, by decide⟩)
theorem eX8_value_92 : D1 cX8_value 92 (.irem) 93 := ⟨by decide +kernel, rfl⟩
theorem eX8_value_93 : D1 cX8_value 93 (.ireturn) 94 := ⟨by decide +kernel, rfl⟩
theorem eX8_value_94 : D1 cX8_value 94 (.aload_n 2) 95 := ⟨by decide +kernel, rfl⟩
theorem eX8_value_95 : D3 cX8_value 95 (.invokevirtual 52) 98 := ⟨by decide +kernel, rfl⟩
theorem eX8_value_98 : D1 cX8_value 98 (.ireturn) 99 := ⟨by decide +kernel, rfl⟩
theorem eX8_value_99 : D1 cX8_value 99 (.aload_n 0) 100 := ⟨by decide +kernel, rfl⟩
theorem eX8_value_100 : D3 cX8_value 100 (.getfield 3) 103 := ⟨by decide +kernel, rfl⟩
theorem eX8_value_103 : D1 cX8_value 103 (.aload_n 2) 104 := ⟨by decide +kernel, rfl⟩
theorem eX8_value_104 : D3 cX8_value 104 (.invokevirtual 56) 107 := ⟨by decide +kernel, rfl⟩
theorem eX8_value_107 : DJ cX8_value 107 (.ifCond .eq) 114 110 := ⟨7, by decide +kernel, by decide, rfl⟩
theorem eX8_value_110 : DC cX8_value 110 (1) 111 := Or.inl ⟨1, ⟨by decide +kernel, rfl⟩, by decide⟩
theorem eX8_value_111 : DJ cX8_value 111 .goto 115 114 := ⟨4, by decide +kernel, by decide, rfl⟩
theorem eX8_value_114 : DC cX8_value 114 (0) 115 := Or.inl ⟨0, ⟨by decide +kernel, rfl⟩, by decide⟩
theorem eX8_value_115 : D1 cX8_value 115 (.ireturn) 116 := ⟨by decide +kernel, rfl⟩
theorem eX8_value_116 : D1 cX8_value 116 (.aload_n 0) 117 := ⟨by decide +kernel, rfl⟩
theorem eX8_value_117 : D3 cX8_value 117 (.getfield 3) 120 := ⟨by decide +kernel, rfl⟩
theorem eX8_value_120 : D3 cX8_value 120 (.getfield 46) 123 := ⟨by decide +kernel, rfl⟩
theorem eX8_value_123 : DC cX8_value 123 (30) 125 := Or.inr (Or.inl ⟨30, ⟨by decide +kernel, rfl⟩, by decide⟩)
theorem eX8_value_125 : D1 cX8_value 125 (.idiv) 126 := ⟨by decide +kernel, rfl⟩
theorem eX8_value_126 : DC cX8_value 126 (12) 128 := Or.inr (Or.inl ⟨12, ⟨by decide +kernel, rfl⟩, by decide⟩)
theorem eX8_value_128 : D1 cX8_value 128 (.irem) 129 := ⟨by decide +kernel, rfl⟩
theorem eX8_value_129 : DC cX8_value 129 (2) 130 := Or.inl ⟨2, ⟨by decide +kernel, rfl⟩, by decide⟩
theorem eX8_value_130 : DJ cX8_value 130 (.if_icmp .ge) 160 133 := ⟨30, by decide +kernel, by decide, rfl⟩
theorem eX8_value_133 : D1 cX8_value 133 (.aload_n 0) 134 := ⟨by decide +kernel, rfl⟩
theorem eX8_value_134 : D3 cX8_value 134 (.getfield 3) 137 := ⟨by decide +kernel, rfl⟩
theorem eX8_value_137 : D3 cX8_value 137 (.getfield 43) 140 := ⟨by decide +kernel, rfl⟩
theorem eX8_value_140 : D1 cX8_value 140 (.aload_n 0) 141 := ⟨by decide +kernel, rfl⟩
theorem eX8_value_141 : D3 cX8_value 141 (.getfield 3) 144 := ⟨by decide +kernel, rfl⟩
theorem eX8_value_144 : D3 cX8_value 144 (.getfield 46) 147 := ⟨by decide +kernel, rfl⟩
theorem eX8_value_147 : DC cX8_value 147 (30) 149 := Or.inr (Or.inl ⟨30, ⟨by decide +kernel, rfl⟩, by decide⟩)
theorem eX8_value_149 : D1 cX8_value 149 (.irem) 150 := ⟨by decide +kernel, rfl⟩
theorem eX8_value_150 : D1 cX8_value 150 (.iaload) 151 := ⟨by decide +kernel, rfl⟩
theorem eX8_value_151 : DC cX8_value 151 (10) 153 := Or.inr (Or.inl ⟨10, ⟨by decide +kernel, rfl⟩, by decide⟩)
theorem eX8_value_153 : DJ cX8_value 153 (.if_icmp .ge) 160 156 := ⟨7, by decide +kernel, by decide, rfl⟩
theorem eX8_value_156 : DC cX8_value 156 (1) 157 := Or.inl ⟨1, ⟨by decide +kernel, rfl⟩, by decide⟩
theorem eX8_value_157 : DJ cX8_value 157 .goto 161 160 := ⟨4, by decide +kernel, by decide, rfl⟩
theorem eX8_value_160 : DC cX8_value 160 (0) 161 := Or.inl ⟨0, ⟨by decide +kernel, rfl⟩, by decide⟩
theorem eX8_value_161 : D1 cX8_value 161 (.ireturn) 162 := ⟨by decide +kernel, rfl⟩
theorem eX8_holds_0 : D1 cX8_holds 0 (.aload_n 0) 1 := ⟨by decide +kernel, rfl⟩
theorem eX8_holds_1 : D3 cX8_holds 1 (.getfield 29) 4 := ⟨by decide +kernel, rfl⟩
theorem eX8_holds_4 : DC cX8_holds 4 (-1) 5 := Or.inl ⟨-1, ⟨by decide +kernel, rfl⟩, by decide⟩
theorem eX8_holds_5 : DJ cX8_holds 5 (.if_icmp .eq) 21 8 := ⟨16, by decide +kernel, by decide, rfl⟩
theorem eX8_holds_8 : D1 cX8_holds 8 (.aload_n 0) 9 := ⟨by decide +kernel, rfl⟩
theorem eX8_holds_9 : D3 cX8_holds 9 (.getfield 29) 12 := ⟨by decide +kernel, rfl⟩
theorem eX8_holds_12 : D1 cX8_holds 12 (.aload_n 1) 13 := ⟨by decide +kernel, rfl⟩
theorem eX8_holds_13 : D3 cX8_holds 13 (.getfield 33) 16 := ⟨by decide +kernel, rfl⟩
theorem eX8_holds_16 : DJ cX8_holds 16 (.if_icmp .eq) 21 19 := ⟨5, by decide +kernel, by decide, rfl⟩
theorem eX8_holds_19 : DC cX8_holds 19 (0) 20 := Or.inl ⟨0, ⟨by decide +kernel, rfl⟩, by decide⟩
theorem eX8_holds_20 : D1 cX8_holds 20 (.ireturn) 21 := ⟨by decide +kernel, rfl⟩
theorem eX8_holds_21 : DC cX8_holds 21 (0) 22 := Or.inl ⟨0, ⟨by decide +kernel, rfl⟩, by decide⟩
theorem eX8_holds_22 : D1 cX8_holds 22 (.istore_n 3) 23 := ⟨by decide +kernel, rfl⟩
theorem eX8_holds_23 : D1 cX8_holds 23 (.iload_n 3) 24 := ⟨by decide +kernel, rfl⟩
theorem eX8_holds_24 : D1 cX8_holds 24 (.aload_n 0) 25 := ⟨by decide +kernel, rfl⟩
theorem eX8_holds_25 : D3 cX8_holds 25 (.getfield 36) 28 := ⟨by decide +kernel, rfl⟩
theorem eX8_holds_28 : DJ cX8_holds 28 (.if_icmp .ge) 142 31 := ⟨114, by decide +kernel, by decide, rfl⟩
theorem eX8_holds_31 : D1 cX8_holds 31 (.aload_n 0) 32 := ⟨by decide +kernel, rfl⟩
theorem eX8_holds_32 : D1 cX8_holds 32 (.aload_n 0) 33 := ⟨by decide +kernel, rfl⟩
theorem eX8_holds_33 : D3 cX8_holds 33 (.getfield 15) 36 := ⟨by decide +kernel, rfl⟩
theorem eX8_holds_36 : D1 cX8_holds 36 (.iload_n 3) 37 := ⟨by decide +kernel, rfl⟩
theorem eX8_holds_37 : D1 cX8_holds 37 (.iaload) 38 := ⟨by decide +kernel, rfl⟩
theorem eX8_holds_38 : D1 cX8_holds 38 (.aload_n 1) 39 := ⟨by decide +kernel, rfl⟩
theorem eX8_holds_39 : D1 cX8_holds 39 (.iload_n 2) 40 := ⟨by decide +kernel, rfl⟩
theorem eX8_holds_40 : D3 cX8_holds 40 (.invokevirtual 39) 43 := ⟨by decide +kernel, rfl⟩
theorem eX8_holds_43 : D2 cX8_holds 43 (.istore 4) 45 := ⟨by decide +kernel, rfl⟩
theorem eX8_holds_45 : D1 cX8_holds 45 (.aload_n 0) 46 := ⟨by decide +kernel, rfl⟩
theorem eX8_holds_46 : D3 cX8_holds 46 (.getfield 19) 49 := ⟨by decide +kernel, rfl⟩
theorem eX8_holds_49 : D1 cX8_holds 49 (.iload_n 3) 50 := ⟨by decide +kernel, rfl⟩
theorem eX8_holds_50 : D1 cX8_holds 50 (.iaload) 51 := ⟨by decide +kernel, rfl⟩
theorem eX8_holds_51 : DC cX8_holds 51 (61) 53 := Or.inr (Or.inl ⟨61, ⟨by decide +kernel, rfl⟩, by decide⟩)
theorem eX8_holds_53 : DJ cX8_holds 53 (.if_icmp .ne) 75 56 := ⟨22, by decide +kernel, by decide, rfl⟩
theorem eX8_holds_56 : D2 cX8_holds 56 (.iload 4) 58 := ⟨by decide +kernel, rfl⟩
theorem eX8_holds_58 : D1 cX8_holds 58 (.aload_n 0) 59 := ⟨by decide +kernel, rfl⟩
theorem eX8_holds_59 : D3 cX8_holds 59 (.getfield 22) 62 := ⟨by decide +kernel, rfl⟩
theorem eX8_holds_62 : D1 cX8_holds 62 (.iload_n 3) 63 := ⟨by decide +kernel, rfl⟩
theorem eX8_holds_63 : D1 cX8_holds 63 (.iaload) 64 := ⟨by decide +kernel, rfl⟩
theorem eX8_holds_64 : DJ cX8_holds 64 (.if_icmp .ne) 71 67 := ⟨7, by decide +kernel, by decide, rfl⟩
theorem eX8_holds_67 : DC cX8_holds 67 (1) 68 := Or.inl ⟨1, ⟨by decide +kernel, rfl⟩, by decide⟩
theorem eX8_holds_68 : DJ cX8_holds 68 .goto 121 71 := ⟨53, by decide +kernel, by decide, rfl⟩
theorem eX8_holds_71 : DC cX8_holds 71 (0) 72 := Or.inl ⟨0, ⟨by decide +kernel, rfl⟩, by decide⟩
theorem eX8_holds_72 : DJ cX8_holds 72 .goto 121 75 := ⟨49, by decide +kernel, by decide, rfl⟩
theorem eX8_holds_75 : D1 cX8_holds 75 (.aload_n 0) 76 := ⟨by decide +kernel, rfl⟩
theorem eX8_holds_76 : D3 cX8_holds 76 (.getfield 19) 79 := ⟨by decide +kernel, rfl⟩
theorem eX8_holds_79 : D1 cX8_holds 79 (.iload_n 3) 80 := ⟨by decide +kernel, rfl⟩
theorem eX8_holds_80 : D1 cX8_holds 80 (.iaload) 81 := ⟨by decide +kernel, rfl⟩
theorem eX8_holds_81 : DC cX8_holds 81 (60) 83 := Or.inr (Or.inl ⟨60, ⟨by decide +kernel, rfl⟩, by decide⟩)
theorem eX8_holds_83 : DJ cX8_holds 83 (.if_icmp .ne) 105 86 := ⟨22, by decide +kernel, by decide, rfl⟩
theorem eX8_holds_86 : D2 cX8_holds 86 (.iload 4) 88 := ⟨by decide +kernel, rfl⟩
theorem eX8_holds_88 : D1 cX8_holds 88 (.aload_n 0) 89 := ⟨by decide +kernel, rfl⟩
theorem eX8_holds_89 : D3 cX8_holds 89 (.getfield 22) 92 := ⟨by decide +kernel, rfl⟩
theorem eX8_holds_92 : D1 cX8_holds 92 (.iload_n 3) 93 := ⟨by decide +kernel, rfl⟩
theorem eX8_holds_93 : D1 cX8_holds 93 (.iaload) 94 := ⟨by decide +kernel, rfl⟩
theorem eX8_holds_94 : DJ cX8_holds 94 (.if_icmp .ge) 101 97 := ⟨7, by decide +kernel, by decide, rfl⟩
theorem eX8_holds_97 : DC cX8_holds 97 (1) 98 := Or.inl ⟨1, ⟨by decide +kernel, rfl⟩, by decide⟩
theorem eX8_holds_98 : DJ cX8_holds 98 .goto 121 101 := ⟨23, by decide +kernel, by decide, rfl⟩
theorem eX8_holds_101 : DC cX8_holds 101 (0) 102 := Or.inl ⟨0, ⟨by decide +kernel, rfl⟩, by decide⟩
theorem eX8_holds_102 : DJ cX8_holds 102 .goto 121 105 := ⟨19, by decide +kernel, by decide, rfl⟩
theorem eX8_holds_105 : D2 cX8_holds 105 (.iload 4) 107 := ⟨by decide +kernel, rfl⟩
theorem eX8_holds_107 : D1 cX8_holds 107 (.aload_n 0) 108 := ⟨by decide +kernel, rfl⟩
theorem eX8_holds_108 : D3 cX8_holds 108 (.getfield 22) 111 := ⟨by decide +kernel, rfl⟩
theorem eX8_holds_111 : D1 cX8_holds 111 (.iload_n 3) 112 := ⟨by decide +kernel, rfl⟩
theorem eX8_holds_112 : D1 cX8_holds 112 (.iaload) 113 := ⟨by decide +kernel, rfl⟩
theorem eX8_holds_113 : DJ cX8_holds 113 (.if_icmp .le) 120 116 := ⟨7, by decide +kernel, by decide, rfl⟩
theorem eX8_holds_116 : DC cX8_holds 116 (1) 117 := Or.inl ⟨1, ⟨by decide +kernel, rfl⟩, by decide⟩
theorem eX8_holds_117 : DJ cX8_holds 117 .goto 121 120 := ⟨4, by decide +kernel, by decide, rfl⟩
theorem eX8_holds_120 : DC cX8_holds 120 (0) 121 := Or.inl ⟨0, ⟨by decide +kernel, rfl⟩, by decide⟩
theorem eX8_holds_121 : D2 cX8_holds 121 (.istore 5) 123 := ⟨by decide +kernel, rfl⟩
theorem eX8_holds_123 : D2 cX8_holds 123 (.iload 5) 125 := ⟨by decide +kernel, rfl⟩
theorem eX8_holds_125 : D1 cX8_holds 125 (.aload_n 0) 126 := ⟨by decide +kernel, rfl⟩
theorem eX8_holds_126 : D3 cX8_holds 126 (.getfield 25) 129 := ⟨by decide +kernel, rfl⟩
theorem eX8_holds_129 : D1 cX8_holds 129 (.iload_n 3) 130 := ⟨by decide +kernel, rfl⟩
theorem eX8_holds_130 : D1 cX8_holds 130 (.baload) 131 := ⟨by decide +kernel, rfl⟩
theorem eX8_holds_131 : DJ cX8_holds 131 (.if_icmp .ne) 136 134 := ⟨5, by decide +kernel, by decide, rfl⟩
theorem eX8_holds_134 : DC cX8_holds 134 (0) 135 := Or.inl ⟨0, ⟨by decide +kernel, rfl⟩, by decide⟩
theorem eX8_holds_135 : D1 cX8_holds 135 (.ireturn) 136 := ⟨by decide +kernel, rfl⟩
theorem eX8_holds_136 : D3 cX8_holds 136 (.iinc 3 1) 139 := ⟨by decide +kernel, rfl⟩
theorem eX8_holds_139 : DJ cX8_holds 139 .goto 23 142 := ⟨-116, by decide +kernel, by decide, rfl⟩
theorem eX8_holds_142 : DC cX8_holds 142 (1) 143 := Or.inl ⟨1, ⟨by decide +kernel, rfl⟩, by decide⟩
theorem eX8_holds_143 : D1 cX8_holds 143 (.ireturn) 144 := ⟨by decide +kernel, rfl⟩
theorem eX0_ruling_0 : D1 cX0_ruling 0 (.aload_n 0) 1 := ⟨by decide +kernel, rfl⟩
theorem eX0_ruling_1 : D3 cX0_ruling 1 (.getfield 363) 4 := ⟨by decide +kernel, rfl⟩
theorem eX0_ruling_4 : DC cX0_ruling 4 (1) 5 := Or.inl ⟨1, ⟨by decide +kernel, rfl⟩, by decide⟩
theorem eX0_ruling_5 : D1 cX0_ruling 5 (.isub) 6 := ⟨by decide +kernel, rfl⟩
theorem eX0_ruling_6 : D1 cX0_ruling 6 (.istore_n 3) 7 := ⟨by decide +kernel, rfl⟩
theorem eX0_ruling_7 : D1 cX0_ruling 7 (.iload_n 3) 8 := ⟨by decide +kernel, rfl⟩
theorem eX0_ruling_8 : DJ cX0_ruling 8 (.ifCond .lt) 33 11 := ⟨25, by decide +kernel, by decide, rfl⟩
theorem eX0_ruling_11 : D1 cX0_ruling 11 (.aload_n 0) 12 := ⟨by decide +kernel, rfl⟩
theorem eX0_ruling_12 : D3 cX0_ruling 12 (.getfield 57) 15 := ⟨by decide +kernel, rfl⟩
theorem eX0_ruling_15 : D1 cX0_ruling 15 (.iload_n 3) 16 := ⟨by decide +kernel, rfl⟩
theorem eX0_ruling_16 : D1 cX0_ruling 16 (.aaload) 17 := ⟨by decide +kernel, rfl⟩
theorem eX0_ruling_17 : D1 cX0_ruling 17 (.aload_n 1) 18 := ⟨by decide +kernel, rfl⟩
theorem eX0_ruling_18 : D1 cX0_ruling 18 (.iload_n 2) 19 := ⟨by decide +kernel, rfl⟩
theorem eX0_ruling_19 : D3 cX0_ruling 19 (.invokevirtual 372) 22 := ⟨by decide +kernel, rfl⟩
theorem eX0_ruling_22 : DJ cX0_ruling 22 (.ifCond .eq) 27 25 := ⟨5, by decide +kernel, by decide, rfl⟩
theorem eX0_ruling_25 : D1 cX0_ruling 25 (.iload_n 3) 26 := ⟨by decide +kernel, rfl⟩
theorem eX0_ruling_26 : D1 cX0_ruling 26 (.ireturn) 27 := ⟨by decide +kernel, rfl⟩
theorem eX0_ruling_27 : D3 cX0_ruling 27 (.iinc 3 (-1)) 30 := ⟨by decide +kernel, rfl⟩
theorem eX0_ruling_30 : DJ cX0_ruling 30 .goto 7 33 := ⟨-23, by decide +kernel, by decide, rfl⟩
theorem eX0_ruling_33 : DC cX0_ruling 33 (-1) 34 := Or.inl ⟨-1, ⟨by decide +kernel, rfl⟩, by decide⟩
theorem eX0_ruling_34 : D1 cX0_ruling 34 (.ireturn) 35 := ⟨by decide +kernel, rfl⟩
theorem eX0_ruled_0 : D1 cX0_ruled 0 (.aload_n 0) 1 := ⟨by decide +kernel, rfl⟩
theorem eX0_ruled_1 : D1 cX0_ruled 1 (.iload_n 1) 2 := ⟨by decide +kernel, rfl⟩
theorem eX0_ruled_2 : D3 cX0_ruled 2 (.invokevirtual 110) 5 := ⟨by decide +kernel, rfl⟩
theorem eX0_ruled_5 : DJ cX0_ruled 5 (.ifCond .ne) 10 8 := ⟨5, by decide +kernel, by decide, rfl⟩
theorem eX0_ruled_8 : DC cX0_ruled 8 (-1) 9 := Or.inl ⟨-1, ⟨by decide +kernel, rfl⟩, by decide⟩
theorem eX0_ruled_9 : D1 cX0_ruled 9 (.ireturn) 10 := ⟨by decide +kernel, rfl⟩
theorem eX0_ruled_10 : D1 cX0_ruled 10 (.iload_n 2) 11 := ⟨by decide +kernel, rfl⟩
theorem eX0_ruled_11 : D1 cX0_ruled 11 (.i2l) 12 := ⟨by decide +kernel, rfl⟩
theorem eX0_ruled_12 : D1 cX0_ruled 12 (.lconst 0) 13 := ⟨by decide +kernel, rfl⟩
theorem eX0_ruled_13 : D3 cX0_ruled 13 (.ldc2_w 277) 16 := ⟨by decide +kernel, rfl⟩
theorem eX0_ruled_16 : D3 cX0_ruled 16 (.invokestatic 103) 19 := ⟨by decide +kernel, rfl⟩
theorem eX0_ruled_19 : DJ cX0_ruled 19 (.ifCond .eq) 36 22 := ⟨17, by decide +kernel, by decide, rfl⟩
theorem eX0_ruled_22 : D1 cX0_ruled 22 (.aload_n 0) 23 := ⟨by decide +kernel, rfl⟩
theorem eX0_ruled_23 : D1 cX0_ruled 23 (.aload_n 0) 24 := ⟨by decide +kernel, rfl⟩
theorem eX0_ruled_24 : D3 cX0_ruled 24 (.getfield 19) 27 := ⟨by decide +kernel, rfl⟩
theorem eX0_ruled_27 : D1 cX0_ruled 27 (.iload_n 1) 28 := ⟨by decide +kernel, rfl⟩
theorem eX0_ruled_28 : D1 cX0_ruled 28 (.aaload) 29 := ⟨by decide +kernel, rfl⟩
theorem eX0_ruled_29 : D1 cX0_ruled 29 (.iload_n 2) 30 := ⟨by decide +kernel, rfl⟩
theorem eX0_ruled_30 : D3 cX0_ruled 30 (.invokevirtual 375) 33 := ⟨by decide +kernel, rfl⟩
theorem eX0_ruled_33 : DJ cX0_ruled 33 .goto 38 36 := ⟨5, by decide +kernel, by decide, rfl⟩
theorem eX0_ruled_36 : DC cX0_ruled 36 (-2) 38 := Or.inr (Or.inl ⟨-2, ⟨by decide +kernel, rfl⟩, by decide⟩)
theorem eX0_ruled_38 : D1 cX0_ruled 38 (.ireturn) 39 := ⟨by decide +kernel, rfl⟩
theorem eX0_mean_0 : DC cX0_mean 0 (0) 1 := Or.inl ⟨0, ⟨by decide +kernel, rfl⟩, by decide⟩
theorem eX0_mean_1 : D1 cX0_mean 1 (.istore_n 2) 2 := ⟨by decide +kernel, rfl⟩
theorem eX0_mean_2 : DC cX0_mean 2 (0) 3 := Or.inl ⟨0, ⟨by decide +kernel, rfl⟩, by decide⟩
theorem eX0_mean_3 : D1 cX0_mean 3 (.istore_n 3) 4 := ⟨by decide +kernel, rfl⟩
theorem eX0_mean_4 : D1 cX0_mean 4 (.iload_n 3) 5 := ⟨by decide +kernel, rfl⟩
theorem eX0_mean_5 : D1 cX0_mean 5 (.aload_n 1) 6 := ⟨by decide +kernel, rfl⟩
theorem eX0_mean_6 : D3 cX0_mean 6 (.invokevirtual 114) 9 := ⟨by decide +kernel, rfl⟩
theorem eX0_mean_9 : DJ cX0_mean 9 (.if_icmp .ge) 47 12 := ⟨38, by decide +kernel, by decide, rfl⟩
theorem eX0_mean_12 : D1 cX0_mean 12 (.aload_n 1) 13 := ⟨by decide +kernel, rfl⟩
theorem eX0_mean_13 : D3 cX0_mean 13 (.getfield 167) 16 := ⟨by decide +kernel, rfl⟩
theorem eX0_mean_16 : D1 cX0_mean 16 (.iload_n 3) 17 := ⟨by decide +kernel, rfl⟩
theorem eX0_mean_17 : D1 cX0_mean 17 (.iaload) 18 := ⟨by decide +kernel, rfl⟩
theorem eX0_mean_18 : DC cX0_mean 18 (-1) 19 := Or.inl ⟨-1, ⟨by decide +kernel, rfl⟩, by decide⟩
theorem eX0_mean_19 : DJ cX0_mean 19 (.if_icmp .ne) 24 22 := ⟨5, by decide +kernel, by decide, rfl⟩
theorem eX0_mean_22 : DC cX0_mean 22 (-1) 23 := Or.inl ⟨-1, ⟨by decide +kernel, rfl⟩, by decide⟩
theorem eX0_mean_23 : D1 cX0_mean 23 (.ireturn) 24 := ⟨by decide +kernel, rfl⟩
theorem eX0_mean_24 : D1 cX0_mean 24 (.iload_n 2) 25 := ⟨by decide +kernel, rfl⟩
theorem eX0_mean_25 : D1 cX0_mean 25 (.aload_n 0) 26 := ⟨by decide +kernel, rfl⟩
theorem eX0_mean_26 : D3 cX0_mean 26 (.getfield 13) 29 := ⟨by decide +kernel, rfl⟩
theorem eX0_mean_29 : D1 cX0_mean 29 (.aload_n 1) 30 := ⟨by decide +kernel, rfl⟩
theorem eX0_mean_30 : D3 cX0_mean 30 (.getfield 167) 33 := ⟨by decide +kernel, rfl⟩
theorem eX0_mean_33 : D1 cX0_mean 33 (.iload_n 3) 34 := ⟨by decide +kernel, rfl⟩
theorem eX0_mean_34 : D1 cX0_mean 34 (.iaload) 35 := ⟨by decide +kernel, rfl⟩
theorem eX0_mean_35 : D1 cX0_mean 35 (.aaload) 36 := ⟨by decide +kernel, rfl⟩
theorem eX0_mean_36 : D3 cX0_mean 36 (.getfield 181) 39 := ⟨by decide +kernel, rfl⟩
theorem eX0_mean_39 : D1 cX0_mean 39 (.iadd) 40 := ⟨by decide +kernel, rfl⟩
theorem eX0_mean_40 : D1 cX0_mean 40 (.istore_n 2) 41 := ⟨by decide +kernel, rfl⟩
theorem eX0_mean_41 : D3 cX0_mean 41 (.iinc 3 1) 44 := ⟨by decide +kernel, rfl⟩
theorem eX0_mean_44 : DJ cX0_mean 44 .goto 4 47 := ⟨-40, by decide +kernel, by decide, rfl⟩
theorem eX0_mean_47 : D1 cX0_mean 47 (.aload_n 1) 48 := ⟨by decide +kernel, rfl⟩
theorem eX0_mean_48 : D3 cX0_mean 48 (.invokevirtual 118) 51 := ⟨by decide +kernel, rfl⟩
theorem eX0_mean_51 : DJ cX0_mean 51 (.ifCond .eq) 69 54 := ⟨18, by decide +kernel, by decide, rfl⟩
theorem eX0_mean_54 : D1 cX0_mean 54 (.aload_n 1) 55 := ⟨by decide +kernel, rfl⟩
theorem eX0_mean_55 : D3 cX0_mean 55 (.getfield 167) 58 := ⟨by decide +kernel, rfl⟩
theorem eX0_mean_58 : DC cX0_mean 58 (8) 60 := Or.inr (Or.inl ⟨8, ⟨by decide +kernel, rfl⟩, by decide⟩)
theorem eX0_mean_60 : D1 cX0_mean 60 (.iaload) 61 := ⟨by decide +kernel, rfl⟩
theorem eX0_mean_61 : DC cX0_mean 61 (-1) 62 := Or.inl ⟨-1, ⟨by decide +kernel, rfl⟩, by decide⟩
theorem eX0_mean_62 : DJ cX0_mean 62 (.if_icmp .ne) 69 65 := ⟨7, by decide +kernel, by decide, rfl⟩
theorem eX0_mean_65 : DC cX0_mean 65 (-1) 66 := Or.inl ⟨-1, ⟨by decide +kernel, rfl⟩, by decide⟩
theorem eX0_mean_66 : DJ cX0_mean 66 .goto 75 69 := ⟨9, by decide +kernel, by decide, rfl⟩
theorem eX0_mean_69 : D1 cX0_mean 69 (.iload_n 2) 70 := ⟨by decide +kernel, rfl⟩
theorem eX0_mean_70 : D1 cX0_mean 70 (.aload_n 1) 71 := ⟨by decide +kernel, rfl⟩
theorem eX0_mean_71 : D3 cX0_mean 71 (.invokevirtual 114) 74 := ⟨by decide +kernel, rfl⟩
theorem eX0_mean_74 : D1 cX0_mean 74 (.idiv) 75 := ⟨by decide +kernel, rfl⟩
theorem eX0_mean_75 : D1 cX0_mean 75 (.ireturn) 76 := ⟨by decide +kernel, rfl⟩
theorem eX0_ashore_0 : D1 cX0_ashore 0 (.aload_n 1) 1 := ⟨by decide +kernel, rfl⟩
theorem eX0_ashore_1 : D3 cX0_ashore 1 (.getfield 184) 4 := ⟨by decide +kernel, rfl⟩
theorem eX0_ashore_4 : DJ cX0_ashore 4 (.ifCond .eq) 9 7 := ⟨5, by decide +kernel, by decide, rfl⟩
theorem eX0_ashore_7 : DC cX0_ashore 7 (1) 8 := Or.inl ⟨1, ⟨by decide +kernel, rfl⟩, by decide⟩
theorem eX0_ashore_8 : D1 cX0_ashore 8 (.ireturn) 9 := ⟨by decide +kernel, rfl⟩
theorem eX0_ashore_9 : D1 cX0_ashore 9 (.aload_n 0) 10 := ⟨by decide +kernel, rfl⟩
theorem eX0_ashore_10 : D1 cX0_ashore 10 (.aload_n 1) 11 := ⟨by decide +kernel, rfl⟩
theorem eX0_ashore_11 : D3 cX0_ashore 11 (.invokevirtual 187) 14 := ⟨by decide +kernel, rfl⟩
theorem eX0_ashore_14 : D1 cX0_ashore 14 (.istore_n 3) 15 := ⟨by decide +kernel, rfl⟩
theorem eX0_ashore_15 : D1 cX0_ashore 15 (.iload_n 3) 16 := ⟨by decide +kernel, rfl⟩
theorem eX0_ashore_16 : DC cX0_ashore 16 (-1) 17 := Or.inl ⟨-1, ⟨by decide +kernel, rfl⟩, by decide⟩
theorem eX0_ashore_17 : DJ cX0_ashore 17 (.if_icmp .ne) 22 20 := ⟨5, by decide +kernel, by decide, rfl⟩
theorem eX0_ashore_20 : DC cX0_ashore 20 (2) 21 := Or.inl ⟨2, ⟨by decide +kernel, rfl⟩, by decide⟩
theorem eX0_ashore_21 : D1 cX0_ashore 21 (.ireturn) 22 := ⟨by decide +kernel, rfl⟩
theorem eX0_ashore_22 : D1 cX0_ashore 22 (.iload_n 3) 23 := ⟨by decide +kernel, rfl⟩
theorem eX0_ashore_23 : D1 cX0_ashore 23 (.i2l) 24 := ⟨by decide +kernel, rfl⟩
theorem eX0_ashore_24 : D1 cX0_ashore 24 (.aload_n 1) 25 := ⟨by decide +kernel, rfl⟩
theorem eX0_ashore_25 : D3 cX0_ashore 25 (.getfield 191) 28 := ⟨by decide +kernel, rfl⟩
theorem eX0_ashore_28 : D1 cX0_ashore 28 (.i2l) 29 := ⟨by decide +kernel, rfl⟩
theorem eX0_ashore_29 : D1 cX0_ashore 29 (.aload_n 1) 30 := ⟨by decide +kernel, rfl⟩
theorem eX0_ashore_30 : D3 cX0_ashore 30 (.getfield 194) 33 := ⟨by decide +kernel, rfl⟩
theorem eX0_ashore_33 : D1 cX0_ashore 33 (.i2l) 34 := ⟨by decide +kernel, rfl⟩
theorem eX0_ashore_34 : D3 cX0_ashore 34 (.invokestatic 103) 37 := ⟨by decide +kernel, rfl⟩
theorem eX0_ashore_37 : DJ cX0_ashore 37 (.ifCond .ne) 42 40 := ⟨5, by decide +kernel, by decide, rfl⟩
theorem eX0_ashore_40 : DC cX0_ashore 40 (3) 41 := Or.inl ⟨3, ⟨by decide +kernel, rfl⟩, by decide⟩
theorem eX0_ashore_41 : D1 cX0_ashore 41 (.ireturn) 42 := ⟨by decide +kernel, rfl⟩
theorem eX0_ashore_42 : DC cX0_ashore 42 (0) 43 := Or.inl ⟨0, ⟨by decide +kernel, rfl⟩, by decide⟩
theorem eX0_ashore_43 : D2 cX0_ashore 43 (.istore 4) 45 := ⟨by decide +kernel, rfl⟩
theorem eX0_ashore_45 : D2 cX0_ashore 45 (.iload 4) 47 := ⟨by decide +kernel, rfl⟩
theorem eX0_ashore_47 : DC cX0_ashore 47 (8) 49 := Or.inr (Or.inl ⟨8, ⟨by decide +kernel, rfl⟩, by decide⟩)
theorem eX0_ashore_49 : DJ cX0_ashore 49 (.if_icmp .gt) 90 52 := ⟨41, by decide +kernel, by decide, rfl⟩
theorem eX0_ashore_52 : D1 cX0_ashore 52 (.aload_n 1) 53 := ⟨by decide +kernel, rfl⟩
theorem eX0_ashore_53 : D3 cX0_ashore 53 (.getfield 167) 56 := ⟨by decide +kernel, rfl⟩
theorem eX0_ashore_56 : D2 cX0_ashore 56 (.iload 4) 58 := ⟨by decide +kernel, rfl⟩
theorem eX0_ashore_58 : D1 cX0_ashore 58 (.iaload) 59 := ⟨by decide +kernel, rfl⟩
theorem eX0_ashore_59 : DC cX0_ashore 59 (-1) 60 := Or.inl ⟨-1, ⟨by decide +kernel, rfl⟩, by decide⟩
theorem eX0_ashore_60 : DJ cX0_ashore 60 (.if_icmp .eq) 84 63 := ⟨24, by decide +kernel, by decide, rfl⟩
theorem eX0_ashore_63 : D1 cX0_ashore 63 (.aload_n 0) 64 := ⟨by decide +kernel, rfl⟩
theorem eX0_ashore_64 : D3 cX0_ashore 64 (.getfield 13) 67 := ⟨by decide +kernel, rfl⟩
theorem eX0_ashore_67 : D1 cX0_ashore 67 (.aload_n 1) 68 := ⟨by decide +kernel, rfl⟩
theorem eX0_ashore_68 : D3 cX0_ashore 68 (.getfield 167) 71 := ⟨by decide +kernel, rfl⟩
theorem eX0_ashore_71 : D2 cX0_ashore 71 (.iload 4) 73 := ⟨by decide +kernel, rfl⟩
theorem eX0_ashore_73 : D1 cX0_ashore 73 (.iaload) 74 := ⟨by decide +kernel, rfl⟩
theorem eX0_ashore_74 : D1 cX0_ashore 74 (.aaload) 75 := ⟨by decide +kernel, rfl⟩
theorem eX0_ashore_75 : D1 cX0_ashore 75 (.iload_n 2) 76 := ⟨by decide +kernel, rfl⟩
theorem eX0_ashore_76 : D3 cX0_ashore 76 (.invokevirtual 197) 79 := ⟨by decide +kernel, rfl⟩
theorem eX0_ashore_79 : DJ cX0_ashore 79 (.ifCond .ne) 84 82 := ⟨5, by decide +kernel, by decide, rfl⟩
theorem eX0_ashore_82 : DC cX0_ashore 82 (4) 83 := Or.inl ⟨4, ⟨by decide +kernel, rfl⟩, by decide⟩
theorem eX0_ashore_83 : D1 cX0_ashore 83 (.ireturn) 84 := ⟨by decide +kernel, rfl⟩
theorem eX0_ashore_84 : D3 cX0_ashore 84 (.iinc 4 1) 87 := ⟨by decide +kernel, rfl⟩
theorem eX0_ashore_87 : DJ cX0_ashore 87 .goto 45 90 := ⟨-42, by decide +kernel, by decide, rfl⟩
theorem eX0_ashore_90 : DC cX0_ashore 90 (0) 91 := Or.inl ⟨0, ⟨by decide +kernel, rfl⟩, by decide⟩
theorem eX0_ashore_91 : D1 cX0_ashore 91 (.ireturn) 92 := ⟨by decide +kernel, rfl⟩
theorem eX0_mayGo_0 : D1 cX0_mayGo 0 (.aload_n 0) 1 := ⟨by decide +kernel, rfl⟩
theorem eX0_mayGo_1 : D1 cX0_mayGo 1 (.aload_n 0) 2 := ⟨by decide +kernel, rfl⟩
theorem eX0_mayGo_2 : D3 cX0_mayGo 2 (.getfield 19) 5 := ⟨by decide +kernel, rfl⟩
theorem eX0_mayGo_5 : D1 cX0_mayGo 5 (.iload_n 1) 6 := ⟨by decide +kernel, rfl⟩
theorem eX0_mayGo_6 : D1 cX0_mayGo 6 (.aaload) 7 := ⟨by decide +kernel, rfl⟩
theorem eX0_mayGo_7 : D1 cX0_mayGo 7 (.iload_n 2) 8 := ⟨by decide +kernel, rfl⟩
theorem eX0_mayGo_8 : D3 cX0_mayGo 8 (.invokevirtual 379) 11 := ⟨by decide +kernel, rfl⟩
theorem eX0_mayGo_11 : D1 cX0_mayGo 11 (.istore_n 3) 12 := ⟨by decide +kernel, rfl⟩
theorem eX0_mayGo_12 : D1 cX0_mayGo 12 (.iload_n 3) 13 := ⟨by decide +kernel, rfl⟩
theorem eX0_mayGo_13 : DJ cX0_mayGo 13 (.ifCond .le) 18 16 := ⟨5, by decide +kernel, by decide, rfl⟩
theorem eX0_mayGo_16 : D1 cX0_mayGo 16 (.iload_n 3) 17 := ⟨by decide +kernel, rfl⟩
theorem eX0_mayGo_17 : D1 cX0_mayGo 17 (.ireturn) 18 := ⟨by decide +kernel, rfl⟩
theorem eX0_mayGo_18 : D1 cX0_mayGo 18 (.aload_n 0) 19 := ⟨by decide +kernel, rfl⟩
theorem eX0_mayGo_19 : D1 cX0_mayGo 19 (.aload_n 0) 20 := ⟨by decide +kernel, rfl⟩
theorem eX0_mayGo_20 : D3 cX0_mayGo 20 (.getfield 19) 23 := ⟨by decide +kernel, rfl⟩
theorem eX0_mayGo_23 : D1 cX0_mayGo 23 (.iload_n 1) 24 := ⟨by decide +kernel, rfl⟩
theorem eX0_mayGo_24 : D1 cX0_mayGo 24 (.aaload) 25 := ⟨by decide +kernel, rfl⟩
theorem eX0_mayGo_25 : D1 cX0_mayGo 25 (.iload_n 2) 26 := ⟨by decide +kernel, rfl⟩
theorem eX0_mayGo_26 : D3 cX0_mayGo 26 (.invokevirtual 375) 29 := ⟨by decide +kernel, rfl⟩
theorem eX0_mayGo_29 : D2 cX0_mayGo 29 (.istore 4) 31 := ⟨by decide +kernel, rfl⟩
theorem eX0_mayGo_31 : D2 cX0_mayGo 31 (.iload 4) 33 := ⟨by decide +kernel, rfl⟩
theorem eX0_mayGo_33 : DC cX0_mayGo 33 (-1) 34 := Or.inl ⟨-1, ⟨by decide +kernel, rfl⟩, by decide⟩
theorem eX0_mayGo_34 : DJ cX0_mayGo 34 (.if_icmp .eq) 54 37 := ⟨20, by decide +kernel, by decide, rfl⟩
theorem eX0_mayGo_37 : D1 cX0_mayGo 37 (.aload_n 0) 38 := ⟨by decide +kernel, rfl⟩
theorem eX0_mayGo_38 : D3 cX0_mayGo 38 (.getfield 57) 41 := ⟨by decide +kernel, rfl⟩
theorem eX0_mayGo_41 : D2 cX0_mayGo 41 (.iload 4) 43 := ⟨by decide +kernel, rfl⟩
theorem eX0_mayGo_43 : D1 cX0_mayGo 43 (.aaload) 44 := ⟨by decide +kernel, rfl⟩
theorem eX0_mayGo_44 : D3 cX0_mayGo 44 (.getfield 343) 47 := ⟨by decide +kernel, rfl⟩
theorem eX0_mayGo_47 : DJ cX0_mayGo 47 (.ifCond .eq) 54 50 := ⟨7, by decide +kernel, by decide, rfl⟩
theorem eX0_mayGo_50 : DC cX0_mayGo 50 (5) 51 := Or.inl ⟨5, ⟨by decide +kernel, rfl⟩, by decide⟩
theorem eX0_mayGo_51 : DJ cX0_mayGo 51 .goto 55 54 := ⟨4, by decide +kernel, by decide, rfl⟩
theorem eX0_mayGo_54 : DC cX0_mayGo 54 (0) 55 := Or.inl ⟨0, ⟨by decide +kernel, rfl⟩, by decide⟩
theorem eX0_mayGo_55 : D1 cX0_mayGo 55 (.ireturn) 56 := ⟨by decide +kernel, rfl⟩
theorem eX0_may_0 : D1 cX0_may 0 (.aload_n 0) 1 := ⟨by decide +kernel, rfl⟩
theorem eX0_may_1 : D1 cX0_may 1 (.iload_n 1) 2 := ⟨by decide +kernel, rfl⟩
theorem eX0_may_2 : D3 cX0_may 2 (.invokevirtual 110) 5 := ⟨by decide +kernel, rfl⟩
theorem eX0_may_5 : DJ cX0_may 5 (.ifCond .ne) 10 8 := ⟨5, by decide +kernel, by decide, rfl⟩
theorem eX0_may_8 : DC cX0_may 8 (-1) 9 := Or.inl ⟨-1, ⟨by decide +kernel, rfl⟩, by decide⟩
theorem eX0_may_9 : D1 cX0_may 9 (.ireturn) 10 := ⟨by decide +kernel, rfl⟩
theorem eX0_may_10 : D1 cX0_may 10 (.iload_n 2) 11 := ⟨by decide +kernel, rfl⟩
theorem eX0_may_11 : D1 cX0_may 11 (.i2l) 12 := ⟨by decide +kernel, rfl⟩
theorem eX0_may_12 : D1 cX0_may 12 (.lconst 0) 13 := ⟨by decide +kernel, rfl⟩
theorem eX0_may_13 : D3 cX0_may 13 (.ldc2_w 277) 16 := ⟨by decide +kernel, rfl⟩
theorem eX0_may_16 : D3 cX0_may 16 (.invokestatic 103) 19 := ⟨by decide +kernel, rfl⟩
theorem eX0_may_19 : DJ cX0_may 19 (.ifCond .eq) 31 22 := ⟨12, by decide +kernel, by decide, rfl⟩
theorem eX0_may_22 : D1 cX0_may 22 (.aload_n 0) 23 := ⟨by decide +kernel, rfl⟩
theorem eX0_may_23 : D1 cX0_may 23 (.iload_n 1) 24 := ⟨by decide +kernel, rfl⟩
theorem eX0_may_24 : D1 cX0_may 24 (.iload_n 2) 25 := ⟨by decide +kernel, rfl⟩
theorem eX0_may_25 : D3 cX0_may 25 (.invokevirtual 382) 28 := ⟨by decide +kernel, rfl⟩
theorem eX0_may_28 : DJ cX0_may 28 .goto 33 31 := ⟨5, by decide +kernel, by decide, rfl⟩
theorem eX0_may_31 : DC cX0_may 31 (-2) 33 := Or.inr (Or.inl ⟨-2, ⟨by decide +kernel, rfl⟩, by decide⟩)
theorem eX0_may_33 : D1 cX0_may 33 (.ireturn) 34 := ⟨by decide +kernel, rfl⟩
theorem eX0_day_0 : D1 cX0_day 0 (.iload_n 1) 1 := ⟨by decide +kernel, rfl⟩
theorem eX0_day_1 : D1 cX0_day 1 (.i2l) 2 := ⟨by decide +kernel, rfl⟩
theorem eX0_day_2 : D1 cX0_day 2 (.aload_n 0) 3 := ⟨by decide +kernel, rfl⟩
theorem eX0_day_3 : D3 cX0_day 3 (.getfield 385) 6 := ⟨by decide +kernel, rfl⟩
theorem eX0_day_6 : D1 cX0_day 6 (.i2l) 7 := ⟨by decide +kernel, rfl⟩
theorem eX0_day_7 : D3 cX0_day 7 (.ldc2_w 205) 10 := ⟨by decide +kernel, rfl⟩
theorem eX0_day_10 : D3 cX0_day 10 (.invokestatic 103) 13 := ⟨by decide +kernel, rfl⟩
theorem eX0_day_13 : DJ cX0_day 13 (.ifCond .ne) 19 16 := ⟨6, by decide +kernel, by decide, rfl⟩
theorem eX0_day_16 : DC cX0_day 16 (-2) 18 := Or.inr (Or.inl ⟨-2, ⟨by decide +kernel, rfl⟩, by decide⟩)
theorem eX0_day_18 : D1 cX0_day 18 (.ireturn) 19 := ⟨by decide +kernel, rfl⟩
theorem eX0_day_19 : D1 cX0_day 19 (.aload_n 0) 20 := ⟨by decide +kernel, rfl⟩
theorem eX0_day_20 : D3 cX0_day 20 (.getfield 385) 23 := ⟨by decide +kernel, rfl⟩
theorem eX0_day_23 : D1 cX0_day 23 (.istore_n 2) 24 := ⟨by decide +kernel, rfl⟩
theorem eX0_day_24 : D1 cX0_day 24 (.aload_n 0) 25 := ⟨by decide +kernel, rfl⟩
theorem eX0_day_25 : D1 cX0_day 25 (.iload_n 1) 26 := ⟨by decide +kernel, rfl⟩
theorem eX0_day_26 : D3 cX0_day 26 (.putfield 385) 29 := ⟨by decide +kernel, rfl⟩
theorem eX0_day_29 : D1 cX0_day 29 (.iload_n 2) 30 := ⟨by decide +kernel, rfl⟩
theorem eX0_day_30 : D1 cX0_day 30 (.ireturn) 31 := ⟨by decide +kernel, rfl⟩
theorem eX0_out_0 : D1 cX0_out 0 (.aload_n 0) 1 := ⟨by decide +kernel, rfl⟩
theorem eX0_out_1 : D1 cX0_out 1 (.iload_n 1) 2 := ⟨by decide +kernel, rfl⟩
theorem eX0_out_2 : D3 cX0_out 2 (.invokevirtual 110) 5 := ⟨by decide +kernel, rfl⟩
theorem eX0_out_5 : DJ cX0_out 5 (.ifCond .ne) 10 8 := ⟨5, by decide +kernel, by decide, rfl⟩
theorem eX0_out_8 : DC cX0_out 8 (-1) 9 := Or.inl ⟨-1, ⟨by decide +kernel, rfl⟩, by decide⟩
theorem eX0_out_9 : D1 cX0_out 9 (.ireturn) 10 := ⟨by decide +kernel, rfl⟩
theorem eX0_out_10 : D1 cX0_out 10 (.iload_n 2) 11 := ⟨by decide +kernel, rfl⟩
theorem eX0_out_11 : D1 cX0_out 11 (.i2l) 12 := ⟨by decide +kernel, rfl⟩
theorem eX0_out_12 : D1 cX0_out 12 (.lconst 0) 13 := ⟨by decide +kernel, rfl⟩
theorem eX0_out_13 : D3 cX0_out 13 (.ldc2_w 277) 16 := ⟨by decide +kernel, rfl⟩
theorem eX0_out_16 : D3 cX0_out 16 (.invokestatic 103) 19 := ⟨by decide +kernel, rfl⟩
theorem eX0_out_19 : DJ cX0_out 19 (.ifCond .ne) 25 22 := ⟨6, by decide +kernel, by decide, rfl⟩
theorem eX0_out_22 : DC cX0_out 22 (-2) 24 := Or.inr (Or.inl ⟨-2, ⟨by decide +kernel, rfl⟩, by decide⟩)
theorem eX0_out_24 : D1 cX0_out 24 (.ireturn) 25 := ⟨by decide +kernel, rfl⟩
theorem eX0_out_25 : D1 cX0_out 25 (.aload_n 0) 26 := ⟨by decide +kernel, rfl⟩
theorem eX0_out_26 : D1 cX0_out 26 (.iload_n 1) 27 := ⟨by decide +kernel, rfl⟩
theorem eX0_out_27 : D1 cX0_out 27 (.iload_n 2) 28 := ⟨by decide +kernel, rfl⟩
theorem eX0_out_28 : D3 cX0_out 28 (.invokevirtual 382) 31 := ⟨by decide +kernel, rfl⟩
theorem eX0_out_31 : DJ cX0_out 31 (.ifCond .le) 37 34 := ⟨6, by decide +kernel, by decide, rfl⟩
theorem eX0_out_34 : DC cX0_out 34 (-3) 36 := Or.inr (Or.inl ⟨-3, ⟨by decide +kernel, rfl⟩, by decide⟩)
theorem eX0_out_36 : D1 cX0_out 36 (.ireturn) 37 := ⟨by decide +kernel, rfl⟩
theorem eX0_out_37 : D1 cX0_out 37 (.aload_n 0) 38 := ⟨by decide +kernel, rfl⟩
theorem eX0_out_38 : D3 cX0_out 38 (.getfield 388) 41 := ⟨by decide +kernel, rfl⟩
theorem eX0_out_41 : DC cX0_out 41 (30) 43 := Or.inr (Or.inl ⟨30, ⟨by decide +kernel, rfl⟩, by decide⟩)
theorem eX0_out_43 : DJ cX0_out 43 (.if_icmp .ne) 49 46 := ⟨6, by decide +kernel, by decide, rfl⟩
theorem eX0_out_46 : DC cX0_out 46 (-4) 48 := Or.inr (Or.inl ⟨-4, ⟨by decide +kernel, rfl⟩, by decide⟩)
theorem eX0_out_48 : D1 cX0_out 48 (.ireturn) 49 := ⟨by decide +kernel, rfl⟩
theorem eX0_out_49 : D1 cX0_out 49 (.aload_n 0) 50 := ⟨by decide +kernel, rfl⟩
theorem eX0_out_50 : D3 cX0_out 50 (.getfield 65) 53 := ⟨by decide +kernel, rfl⟩
theorem eX0_out_53 : D1 cX0_out 53 (.aload_n 0) 54 := ⟨by decide +kernel, rfl⟩
theorem eX0_out_54 : D3 cX0_out 54 (.getfield 388) 57 := ⟨by decide +kernel, rfl⟩
theorem eX0_out_57 : D1 cX0_out 57 (.iload_n 1) 58 := ⟨by decide +kernel, rfl⟩
theorem eX0_out_58 : D1 cX0_out 58 (.iastore) 59 := ⟨by decide +kernel, rfl⟩
theorem eX0_out_59 : D1 cX0_out 59 (.aload_n 0) 60 := ⟨by decide +kernel, rfl⟩
theorem eX0_out_60 : D3 cX0_out 60 (.getfield 68) 63 := ⟨by decide +kernel, rfl⟩
theorem eX0_out_63 : D1 cX0_out 63 (.aload_n 0) 64 := ⟨by decide +kernel, rfl⟩
theorem eX0_out_64 : D3 cX0_out 64 (.getfield 388) 67 := ⟨by decide +kernel, rfl⟩
theorem eX0_out_67 : D1 cX0_out 67 (.aload_n 0) 68 := ⟨by decide +kernel, rfl⟩
theorem eX0_out_68 : D3 cX0_out 68 (.getfield 385) 71 := ⟨by decide +kernel, rfl⟩
theorem eX0_out_71 : D1 cX0_out 71 (.iastore) 72 := ⟨by decide +kernel, rfl⟩
theorem eX0_out_72 : D1 cX0_out 72 (.aload_n 0) 73 := ⟨by decide +kernel, rfl⟩
theorem eX0_out_73 : D3 cX0_out 73 (.getfield 71) 76 := ⟨by decide +kernel, rfl⟩
theorem eX0_out_76 : D1 cX0_out 76 (.aload_n 0) 77 := ⟨by decide +kernel, rfl⟩
theorem eX0_out_77 : D3 cX0_out 77 (.getfield 388) 80 := ⟨by decide +kernel, rfl⟩
theorem eX0_out_80 : D1 cX0_out 80 (.iload_n 2) 81 := ⟨by decide +kernel, rfl⟩
theorem eX0_out_81 : D1 cX0_out 81 (.iastore) 82 := ⟨by decide +kernel, rfl⟩
theorem eX0_out_82 : D1 cX0_out 82 (.aload_n 0) 83 := ⟨by decide +kernel, rfl⟩
theorem eX0_out_83 : D3 cX0_out 83 (.getfield 74) 86 := ⟨by decide +kernel, rfl⟩
theorem eX0_out_86 : D1 cX0_out 86 (.aload_n 0) 87 := ⟨by decide +kernel, rfl⟩
theorem eX0_out_87 : D3 cX0_out 87 (.getfield 388) 90 := ⟨by decide +kernel, rfl⟩
theorem eX0_out_90 : DC cX0_out 90 (0) 91 := Or.inl ⟨0, ⟨by decide +kernel, rfl⟩, by decide⟩
theorem eX0_out_91 : D1 cX0_out 91 (.iastore) 92 := ⟨by decide +kernel, rfl⟩
theorem eX0_out_92 : DC cX0_out 92 (0) 93 := Or.inl ⟨0, ⟨by decide +kernel, rfl⟩, by decide⟩
theorem eX0_out_93 : D1 cX0_out 93 (.istore_n 3) 94 := ⟨by decide +kernel, rfl⟩
theorem eX0_out_94 : D1 cX0_out 94 (.iload_n 3) 95 := ⟨by decide +kernel, rfl⟩
theorem eX0_out_95 : DC cX0_out 95 (8) 97 := Or.inr (Or.inl ⟨8, ⟨by decide +kernel, rfl⟩, by decide⟩)
theorem eX0_out_97 : DJ cX0_out 97 (.if_icmp .gt) 146 100 := ⟨49, by decide +kernel, by decide, rfl⟩
theorem eX0_out_100 : D1 cX0_out 100 (.aload_n 0) 101 := ⟨by decide +kernel, rfl⟩
theorem eX0_out_101 : D3 cX0_out 101 (.getfield 19) 104 := ⟨by decide +kernel, rfl⟩
theorem eX0_out_104 : D1 cX0_out 104 (.iload_n 1) 105 := ⟨by decide +kernel, rfl⟩
theorem eX0_out_105 : D1 cX0_out 105 (.aaload) 106 := ⟨by decide +kernel, rfl⟩
theorem eX0_out_106 : D3 cX0_out 106 (.getfield 167) 109 := ⟨by decide +kernel, rfl⟩
theorem eX0_out_109 : D1 cX0_out 109 (.iload_n 3) 110 := ⟨by decide +kernel, rfl⟩
theorem eX0_out_110 : D1 cX0_out 110 (.iaload) 111 := ⟨by decide +kernel, rfl⟩
theorem eX0_out_111 : DC cX0_out 111 (-1) 112 := Or.inl ⟨-1, ⟨by decide +kernel, rfl⟩, by decide⟩
theorem eX0_out_112 : DJ cX0_out 112 (.if_icmp .eq) 140 115 := ⟨28, by decide +kernel, by decide, rfl⟩
theorem eX0_out_115 : D1 cX0_out 115 (.aload_n 0) 116 := ⟨by decide +kernel, rfl⟩
theorem eX0_out_116 : D3 cX0_out 116 (.getfield 74) 119 := ⟨by decide +kernel, rfl⟩
theorem eX0_out_119 : D1 cX0_out 119 (.aload_n 0) 120 := ⟨by decide +kernel, rfl⟩
theorem eX0_out_120 : D3 cX0_out 120 (.getfield 388) 123 := ⟨by decide +kernel, rfl⟩
theorem eX0_out_123 : D1 cX0_out 123 (.dup2) 124 := ⟨by decide +kernel, rfl⟩
theorem eX0_out_124 : D1 cX0_out 124 (.iaload) 125 := ⟨by decide +kernel, rfl⟩
theorem eX0_out_125 : DC cX0_out 125 (1) 126 := Or.inl ⟨1, ⟨by decide +kernel, rfl⟩, by decide⟩
theorem eX0_out_126 : D1 cX0_out 126 (.aload_n 0) 127 := ⟨by decide +kernel, rfl⟩
theorem eX0_out_127 : D3 cX0_out 127 (.getfield 19) 130 := ⟨by decide +kernel, rfl⟩
theorem eX0_out_130 : D1 cX0_out 130 (.iload_n 1) 131 := ⟨by decide +kernel, rfl⟩
theorem eX0_out_131 : D1 cX0_out 131 (.aaload) 132 := ⟨by decide +kernel, rfl⟩
theorem eX0_out_132 : D3 cX0_out 132 (.getfield 167) 135 := ⟨by decide +kernel, rfl⟩
theorem eX0_out_135 : D1 cX0_out 135 (.iload_n 3) 136 := ⟨by decide +kernel, rfl⟩
theorem eX0_out_136 : D1 cX0_out 136 (.iaload) 137 := ⟨by decide +kernel, rfl⟩
theorem eX0_out_137 : D1 cX0_out 137 (.ishl) 138 := ⟨by decide +kernel, rfl⟩
theorem eX0_out_138 : D1 cX0_out 138 (.ior) 139 := ⟨by decide +kernel, rfl⟩
theorem eX0_out_139 : D1 cX0_out 139 (.iastore) 140 := ⟨by decide +kernel, rfl⟩
theorem eX0_out_140 : D3 cX0_out 140 (.iinc 3 1) 143 := ⟨by decide +kernel, rfl⟩
theorem eX0_out_143 : DJ cX0_out 143 .goto 94 146 := ⟨-49, by decide +kernel, by decide, rfl⟩
theorem eX0_out_146 : D1 cX0_out 146 (.aload_n 0) 147 := ⟨by decide +kernel, rfl⟩
theorem eX0_out_147 : D1 cX0_out 147 (.dup) 148 := ⟨by decide +kernel, rfl⟩
theorem eX0_out_148 : D3 cX0_out 148 (.getfield 388) 151 := ⟨by decide +kernel, rfl⟩
theorem eX0_out_151 : DC cX0_out 151 (1) 152 := Or.inl ⟨1, ⟨by decide +kernel, rfl⟩, by decide⟩
theorem eX0_out_152 : D1 cX0_out 152 (.iadd) 153 := ⟨by decide +kernel, rfl⟩
theorem eX0_out_153 : D3 cX0_out 153 (.putfield 388) 156 := ⟨by decide +kernel, rfl⟩
theorem eX0_out_156 : D1 cX0_out 156 (.aload_n 0) 157 := ⟨by decide +kernel, rfl⟩
theorem eX0_out_157 : D3 cX0_out 157 (.getfield 388) 160 := ⟨by decide +kernel, rfl⟩
theorem eX0_out_160 : DC cX0_out 160 (1) 161 := Or.inl ⟨1, ⟨by decide +kernel, rfl⟩, by decide⟩
theorem eX0_out_161 : D1 cX0_out 161 (.isub) 162 := ⟨by decide +kernel, rfl⟩
theorem eX0_out_162 : D1 cX0_out 162 (.ireturn) 163 := ⟨by decide +kernel, rfl⟩
theorem eX0_look_0 : D1 cX0_look 0 (.aload_n 0) 1 := ⟨by decide +kernel, rfl⟩
theorem eX0_look_1 : D1 cX0_look 1 (.iload_n 1) 2 := ⟨by decide +kernel, rfl⟩
theorem eX0_look_2 : D3 cX0_look 2 (.invokevirtual 110) 5 := ⟨by decide +kernel, rfl⟩
theorem eX0_look_5 : DJ cX0_look 5 (.ifCond .ne) 10 8 := ⟨5, by decide +kernel, by decide, rfl⟩
theorem eX0_look_8 : DC cX0_look 8 (-1) 9 := Or.inl ⟨-1, ⟨by decide +kernel, rfl⟩, by decide⟩
theorem eX0_look_9 : D1 cX0_look 9 (.ireturn) 10 := ⟨by decide +kernel, rfl⟩
theorem eX0_look_10 : D1 cX0_look 10 (.iload_n 2) 11 := ⟨by decide +kernel, rfl⟩
theorem eX0_look_11 : D1 cX0_look 11 (.i2l) 12 := ⟨by decide +kernel, rfl⟩
theorem eX0_look_12 : D1 cX0_look 12 (.lconst 0) 13 := ⟨by decide +kernel, rfl⟩
theorem eX0_look_13 : D1 cX0_look 13 (.lconst 1) 14 := ⟨by decide +kernel, rfl⟩
theorem eX0_look_14 : D3 cX0_look 14 (.invokestatic 103) 17 := ⟨by decide +kernel, rfl⟩
theorem eX0_look_17 : DJ cX0_look 17 (.ifCond .ne) 23 20 := ⟨6, by decide +kernel, by decide, rfl⟩
theorem eX0_look_20 : DC cX0_look 20 (-2) 22 := Or.inr (Or.inl ⟨-2, ⟨by decide +kernel, rfl⟩, by decide⟩)
theorem eX0_look_22 : D1 cX0_look 22 (.ireturn) 23 := ⟨by decide +kernel, rfl⟩
theorem eX0_look_23 : D1 cX0_look 23 (.aload_n 0) 24 := ⟨by decide +kernel, rfl⟩
theorem eX0_look_24 : D3 cX0_look 24 (.getfield 391) 27 := ⟨by decide +kernel, rfl⟩
theorem eX0_look_27 : DC cX0_look 27 (60) 29 := Or.inr (Or.inl ⟨60, ⟨by decide +kernel, rfl⟩, by decide⟩)
theorem eX0_look_29 : DJ cX0_look 29 (.if_icmp .ne) 35 32 := ⟨6, by decide +kernel, by decide, rfl⟩
theorem eX0_look_32 : DC cX0_look 32 (-4) 34 := Or.inr (Or.inl ⟨-4, ⟨by decide +kernel, rfl⟩, by decide⟩)
theorem eX0_look_34 : D1 cX0_look 34 (.ireturn) 35 := ⟨by decide +kernel, rfl⟩
theorem eX0_look_35 : D1 cX0_look 35 (.aload_n 0) 36 := ⟨by decide +kernel, rfl⟩
theorem eX0_look_36 : D3 cX0_look 36 (.getfield 77) 39 := ⟨by decide +kernel, rfl⟩
theorem eX0_look_39 : D1 cX0_look 39 (.aload_n 0) 40 := ⟨by decide +kernel, rfl⟩
theorem eX0_look_40 : D3 cX0_look 40 (.getfield 391) 43 := ⟨by decide +kernel, rfl⟩
theorem eX0_look_43 : D1 cX0_look 43 (.iload_n 1) 44 := ⟨by decide +kernel, rfl⟩
theorem eX0_look_44 : D1 cX0_look 44 (.iastore) 45 := ⟨by decide +kernel, rfl⟩
theorem eX0_look_45 : D1 cX0_look 45 (.aload_n 0) 46 := ⟨by decide +kernel, rfl⟩
theorem eX0_look_46 : D3 cX0_look 46 (.getfield 80) 49 := ⟨by decide +kernel, rfl⟩
theorem eX0_look_49 : D1 cX0_look 49 (.aload_n 0) 50 := ⟨by decide +kernel, rfl⟩
theorem eX0_look_50 : D3 cX0_look 50 (.getfield 391) 53 := ⟨by decide +kernel, rfl⟩
theorem eX0_look_53 : D1 cX0_look 53 (.aload_n 0) 54 := ⟨by decide +kernel, rfl⟩
theorem eX0_look_54 : D3 cX0_look 54 (.getfield 388) 57 := ⟨by decide +kernel, rfl⟩
theorem eX0_look_57 : D1 cX0_look 57 (.iastore) 58 := ⟨by decide +kernel, rfl⟩
theorem eX0_look_58 : D1 cX0_look 58 (.aload_n 0) 59 := ⟨by decide +kernel, rfl⟩
theorem eX0_look_59 : D3 cX0_look 59 (.getfield 83) 62 := ⟨by decide +kernel, rfl⟩
theorem eX0_look_62 : D1 cX0_look 62 (.aload_n 0) 63 := ⟨by decide +kernel, rfl⟩
theorem eX0_look_63 : D3 cX0_look 63 (.getfield 391) 66 := ⟨by decide +kernel, rfl⟩
theorem eX0_look_66 : D1 cX0_look 66 (.iload_n 2) 67 := ⟨by decide +kernel, rfl⟩
theorem eX0_look_67 : DC cX0_look 67 (1) 68 := Or.inl ⟨1, ⟨by decide +kernel, rfl⟩, by decide⟩
theorem eX0_look_68 : DJ cX0_look 68 (.if_icmp .ne) 75 71 := ⟨7, by decide +kernel, by decide, rfl⟩
theorem eX0_look_71 : DC cX0_look 71 (1) 72 := Or.inl ⟨1, ⟨by decide +kernel, rfl⟩, by decide⟩
theorem eX0_look_72 : DJ cX0_look 72 .goto 76 75 := ⟨4, by decide +kernel, by decide, rfl⟩
theorem eX0_look_75 : DC cX0_look 75 (0) 76 := Or.inl ⟨0, ⟨by decide +kernel, rfl⟩, by decide⟩
theorem eX0_look_76 : D1 cX0_look 76 (.bastore) 77 := ⟨by decide +kernel, rfl⟩
theorem eX0_look_77 : D1 cX0_look 77 (.aload_n 0) 78 := ⟨by decide +kernel, rfl⟩
theorem eX0_look_78 : D1 cX0_look 78 (.dup) 79 := ⟨by decide +kernel, rfl⟩
theorem eX0_look_79 : D3 cX0_look 79 (.getfield 391) 82 := ⟨by decide +kernel, rfl⟩
theorem eX0_look_82 : DC cX0_look 82 (1) 83 := Or.inl ⟨1, ⟨by decide +kernel, rfl⟩, by decide⟩
theorem eX0_look_83 : D1 cX0_look 83 (.iadd) 84 := ⟨by decide +kernel, rfl⟩
theorem eX0_look_84 : D3 cX0_look 84 (.putfield 391) 87 := ⟨by decide +kernel, rfl⟩
theorem eX0_look_87 : D1 cX0_look 87 (.aload_n 0) 88 := ⟨by decide +kernel, rfl⟩
theorem eX0_look_88 : D3 cX0_look 88 (.getfield 19) 91 := ⟨by decide +kernel, rfl⟩
theorem eX0_look_91 : D1 cX0_look 91 (.iload_n 1) 92 := ⟨by decide +kernel, rfl⟩
theorem eX0_look_92 : D1 cX0_look 92 (.aaload) 93 := ⟨by decide +kernel, rfl⟩
theorem eX0_look_93 : D1 cX0_look 93 (.iload_n 2) 94 := ⟨by decide +kernel, rfl⟩
theorem eX0_look_94 : DJ cX0_look 94 (.ifCond .ne) 101 97 := ⟨7, by decide +kernel, by decide, rfl⟩
theorem eX0_look_97 : DC cX0_look 97 (1) 98 := Or.inl ⟨1, ⟨by decide +kernel, rfl⟩, by decide⟩
theorem eX0_look_98 : DJ cX0_look 98 .goto 102 101 := ⟨4, by decide +kernel, by decide, rfl⟩
theorem eX0_look_101 : DC cX0_look 101 (0) 102 := Or.inl ⟨0, ⟨by decide +kernel, rfl⟩, by decide⟩
theorem eX0_look_102 : D3 cX0_look 102 (.putfield 184) 105 := ⟨by decide +kernel, rfl⟩
theorem eX0_look_105 : D1 cX0_look 105 (.aload_n 0) 106 := ⟨by decide +kernel, rfl⟩
theorem eX0_look_106 : D3 cX0_look 106 (.getfield 391) 109 := ⟨by decide +kernel, rfl⟩
theorem eX0_look_109 : DC cX0_look 109 (1) 110 := Or.inl ⟨1, ⟨by decide +kernel, rfl⟩, by decide⟩
theorem eX0_look_110 : D1 cX0_look 110 (.isub) 111 := ⟨by decide +kernel, rfl⟩
theorem eX0_look_111 : D1 cX0_look 111 (.ireturn) 112 := ⟨by decide +kernel, rfl⟩
def sX_water (w : Wd) (a1 : Int32) (a2 : Int32) (a3 : Int32) : Option (Int32 × Wd) :=
  bd (sX_in (Int32.toInt64 a1) (0 : Int64) (29 : Int64)) fun v1 => if v1 = 0 then (some ((-1 : Int32), w)) else (bd (sX_in (Int32.toInt64 a2) (0 : Int64) (200 : Int64)) fun v2 => if v2 = 0 then (some ((-2 : Int32), w)) else (bd (sX_in (Int32.toInt64 a3) (0 : Int64) (12 : Int64)) fun v3 => if v3 = 0 then (some ((-2 : Int32), w)) else (rd (inb a1 30) (stG w 17 (Int32.toNatClampNeg a1) a2) fun w4 => rd (inb a1 30) (stG w4 18 (Int32.toNatClampNeg a1) a3) fun w5 => some ((0 : Int32), w5))))
abbrev rmX0_water : Room := { frames := 1, cells := 0, slots := 0, locals := 25 }
theorem pkX0_water : PkV yX0_water RX0 cX0_water 4 (some .int) 3 := ⟨q509, q510, q57, q511, by decide +kernel⟩
set_option maxHeartbeats 4000000 in
theorem met_X0_water (l : Launch) (D : va_G) (g : Nat → ClassId) (ad sd : Nat → Nat) (w : Wd) (a1 : Int32) (a2 : Int32) (a3 : Int32) (sz : Nat) (r : Int32) (w' : Wd) (ho : sX_water w a1 a2 a3 = some (r, w')) : Met l yX0_water (ws_ yX0_water cX0_water 4 (some .int)) rmX0_water (va_Pc [.ref (ad 99), .int a1, .int a2, .int a3] (MPre D vwCl (tysG g) (cellsX g ad w) (NXX sd (cellsX g ad w)) sz)) (QcI D vwCl (tysG g) (cellsX g ad w') r (va_A (cellsX g ad w) sz)) 0 0 (va_A (cellsX g ad w) sz) := by
  refine met_XJ (cw := cellsX g ad) (w := w) (cc := cX0_water) (lv := [(0, .ref (ad 99)), (1, .int a1), (2, .int a2), (3, .int a3)]) pnX0 _ (Nat.le_of_ble_eq_true rfl) rfl ?_
  intro p e s m args below meth c R Q A B hN hr hsz hA hmm hRm hQ hAe
  have hX : NXA sd A s := by rw [hAe, ← hsz]; exact hN
  unfold sX_water at ho
  refine j_iload_n B eX0_water_0 1 rfl ?_
  refine j_i2l B eX0_water_1 ?_
  refine j_lconst (v := 0) B eX0_water_2 rfl ?_
  refine j_ldc2 B eX0_water_3 q512 ?_
  refine j_callSi (As := [.long (Int32.toInt64 a1), .long (0 : Int64), .long (29 : Int64)]) B hA (met_X0_in l D _ _ _ (Int32.toInt64 a1) (0 : Int64) (29 : Int64)) NT_ok pkX0_in q224 rfl rfl hRm ⟨Nat.le_of_ble_eq_true rfl, Nat.le_of_ble_eq_true rfl⟩ rfl rfl (Nat.le_of_ble_eq_true rfl) ⟨Nat.zero_le _, Nat.zero_le _⟩ eX0_water_6 ho (fun v1 ho => ?_)
  refine j_if_ne B eX0_water_9 ho (fun _ ho => ?_) (fun _ ho => ?_)
  · refine j_iload_n B eX0_water_14 2 rfl ?_
    refine j_i2l B eX0_water_15 ?_
    refine j_lconst (v := 0) B eX0_water_16 rfl ?_
    refine j_ldc2 B eX0_water_17 q513 ?_
    refine j_callSi (As := [.long (Int32.toInt64 a2), .long (0 : Int64), .long (200 : Int64)]) B hA (met_X0_in l D _ _ _ (Int32.toInt64 a2) (0 : Int64) (200 : Int64)) NT_ok pkX0_in q224 rfl rfl hRm ⟨Nat.le_of_ble_eq_true rfl, Nat.le_of_ble_eq_true rfl⟩ rfl rfl (Nat.le_of_ble_eq_true rfl) ⟨Nat.zero_le _, Nat.zero_le _⟩ eX0_water_20 ho (fun v2 ho => ?_)
    refine j_if_eq B eX0_water_23 ho (fun _ ho => ?_) (fun _ ho => ?_)
    · refine j_const B eX0_water_38 ?_
      exact j_iretw B hr hQ eX0_water_40 ho
    · refine j_iload_n B eX0_water_26 3 rfl ?_
      refine j_i2l B eX0_water_27 ?_
      refine j_lconst (v := 0) B eX0_water_28 rfl ?_
      refine j_ldc2 B eX0_water_29 q514 ?_
      refine j_callSi (As := [.long (Int32.toInt64 a3), .long (0 : Int64), .long (12 : Int64)]) B hA (met_X0_in l D _ _ _ (Int32.toInt64 a3) (0 : Int64) (12 : Int64)) NT_ok pkX0_in q224 rfl rfl hRm ⟨Nat.le_of_ble_eq_true rfl, Nat.le_of_ble_eq_true rfl⟩ rfl rfl (Nat.le_of_ble_eq_true rfl) ⟨Nat.zero_le _, Nat.zero_le _⟩ eX0_water_32 ho (fun v3 ho => ?_)
      refine j_if_ne B eX0_water_35 ho (fun _ ho => ?_) (fun _ ho => ?_)
      · refine j_aload_n B eX0_water_41 0 rfl ?_
        refine gfX_17 B eX0_water_42 ?_
        refine j_iload_n B eX0_water_45 1 rfl ?_
        refine j_iload_n B eX0_water_46 2 rfl ?_
        refine stX_17 B eX0_water_47 ho (fun w4 ho => ?_)
        refine j_aload_n B eX0_water_48 0 rfl ?_
        refine gfX_18 B eX0_water_49 ?_
        refine j_iload_n B eX0_water_52 1 rfl ?_
        refine j_iload_n B eX0_water_53 3 rfl ?_
        refine stX_18 B eX0_water_54 ho (fun w5 ho => ?_)
        refine j_const B eX0_water_55 ?_
        exact j_iretw B hr hQ eX0_water_56 ho
      · refine j_const B eX0_water_38 ?_
        exact j_iretw B hr hQ eX0_water_40 ho
  · refine j_const B eX0_water_12 ?_
    exact j_iretw B hr hQ eX0_water_13 ho
def sX_feed_L34 (a1 : Int64) (J4 : Wd → Option (Int32 × Wd)) : Int32 → Wd → Option (Int32 × Wd) :=
  fx (fun _ _ => none) (fun self7 x5 w6 =>
    if x5 < 0 then (J4 w6) else (rd (inb (w6.2.1 90 22) 120) (stG w6 21 (Int32.toNatClampNeg (w6.2.1 90 22)) (vp_nar .byte (Int8.toInt32 (Int32.toInt8 (Int64.toInt32 (a1 >>> (Int32.toInt64 ((8 : Int32) * x5) &&& 63))))))) fun w8 => nm (stG w8 90 22 ((w8.2.1 90 22) + (1 : Int32))) fun w9 => nm (x5 + (-1 : Int32)) fun x10 => self7 x10 w9)) FU
def sX_feed (w : Wd) (a1 : Int64) (a2 : Int32) : Option (Int32 × Wd) :=
  bd (sX_in (Int32.toInt64 a2) (1 : Int64) (8 : Int64)) fun v1 => if v1 = 0 then (some ((-2 : Int32), w)) else (if ((w.2.1 90 22) + a2) ≤ (120 : Int32) then (nm (a2 - (1 : Int32)) fun x2 => jn (fun w3 => some ((w3.2.1 90 22), w3)) fun J4 => sX_feed_L34 a1 J4 x2 w) else (some ((-4 : Int32), w)))
abbrev rmX0_feed : Room := { frames := 1, cells := 0, slots := 0, locals := 25 }
theorem pkX0_feed : PkV yX0_feed RX0 cX0_feed 5 (some .int) 2 := ⟨q516, q517, q57, q518, by decide +kernel⟩
set_option maxHeartbeats 4000000 in
theorem met_X0_feed (l : Launch) (D : va_G) (g : Nat → ClassId) (ad sd : Nat → Nat) (w : Wd) (a1 : Int64) (a2 : Int32) (sz : Nat) (r : Int32) (w' : Wd) (ho : sX_feed w a1 a2 = some (r, w')) : Met l yX0_feed (ws_ yX0_feed cX0_feed 5 (some .int)) rmX0_feed (va_Pc [.ref (ad 99), .long a1, .int a2] (MPre D vwCl (tysG g) (cellsX g ad w) (NXX sd (cellsX g ad w)) sz)) (QcI D vwCl (tysG g) (cellsX g ad w') r (va_A (cellsX g ad w) sz)) 0 0 (va_A (cellsX g ad w) sz) := by
  refine met_XJ (cw := cellsX g ad) (w := w) (cc := cX0_feed) (lv := [(0, .ref (ad 99)), (1, .long a1), (3, .int a2)]) pnX0 _ (Nat.le_of_ble_eq_true rfl) rfl ?_
  intro p e s m args below meth c R Q A B hN hr hsz hA hmm hRm hQ hAe
  have hX : NXA sd A s := by rw [hAe, ← hsz]; exact hN
  unfold sX_feed at ho
  refine j_iload_n B eX0_feed_0 2 rfl ?_
  refine j_i2l B eX0_feed_1 ?_
  refine j_lconst (v := 1) B eX0_feed_2 rfl ?_
  refine j_ldc2 B eX0_feed_3 q519 ?_
  refine j_callSi (As := [.long (Int32.toInt64 a2), .long (1 : Int64), .long (8 : Int64)]) B hA (met_X0_in l D _ _ _ (Int32.toInt64 a2) (1 : Int64) (8 : Int64)) NT_ok pkX0_in q224 rfl rfl hRm ⟨Nat.le_of_ble_eq_true rfl, Nat.le_of_ble_eq_true rfl⟩ rfl rfl (Nat.le_of_ble_eq_true rfl) ⟨Nat.zero_le _, Nat.zero_le _⟩ eX0_feed_6 ho (fun v1 ho => ?_)
  refine j_if_ne B eX0_feed_9 ho (fun _ ho => ?_) (fun _ ho => ?_)
  · refine j_aload_n B eX0_feed_15 0 rfl ?_
    refine gfX_22 B eX0_feed_16 ?_
    refine j_iload_n B eX0_feed_19 2 rfl ?_
    refine j_iadd B eX0_feed_20 ?_
    refine j_const B eX0_feed_21 ?_
    refine j_icmp_le B eX0_feed_23 ho (fun _ ho => ?_) (fun _ ho => ?_)
    · refine j_iload_n B eX0_feed_29 2 rfl ?_
      refine j_const B eX0_feed_30 ?_
      refine j_isub B eX0_feed_31 ?_
      refine j_istore (lv' := fun x2 => [(0, .ref (ad 99)), (1, .long a1), (4, .int x2)]) B eX0_feed_32 [1, 2, 0] (by decide) (fun _ => rfl) ho (fun x2 ho => ?_)
      refine jn1 (C := fun w3 => XJ p l e R s m args below meth c 0 0 Q A D vwCl (cellsX g ad) 5 w3 73 [(0, .ref (ad 99))] []) ho (fun w3 ho => ?_) (fun J4 hJ4 ho => ?_)
      · refine j_aload_n B eX0_feed_73 0 rfl ?_
        refine gfX_22 B eX0_feed_74 ?_
        exact j_iretw B hr hQ eX0_feed_77 ho
      · unfold sX_feed_L34 at ho
        refine fx2 (C := fun x5 w6 => XJ p l e R s m args below meth c 0 0 Q A D vwCl (cellsX g ad) 5 w6 34 [(0, .ref (ad 99)), (1, .long a1), (4, .int x5)] []) (fun self7 hself7 x5 w6 ho => ?_) FU _ _ ho
        refine j_iload B eX0_feed_34 2 rfl ?_
        refine j_if_lt B eX0_feed_36 ho (fun _ ho => ?_) (fun _ ho => ?_)
        · refine j_lsub (lv' := [(0, .ref (ad 99))]) [0] rfl ?_
          exact hJ4 _ ho
        · refine j_aload_n B eX0_feed_39 0 rfl ?_
          refine gfX_21 B eX0_feed_40 ?_
          refine j_aload_n B eX0_feed_43 0 rfl ?_
          refine gfX_22 B eX0_feed_44 ?_
          refine j_lload_n B eX0_feed_47 1 rfl ?_
          refine j_const B eX0_feed_48 ?_
          refine j_iload B eX0_feed_50 2 rfl ?_
          refine j_imul B eX0_feed_52 ?_
          refine j_lshr B eX0_feed_53 ?_
          refine j_l2i B eX0_feed_54 ?_
          refine j_i2b B eX0_feed_55 ?_
          refine stX_21 B eX0_feed_56 ho (fun w8 ho => ?_)
          refine j_aload_n B eX0_feed_57 0 rfl ?_
          refine j_dup B eX0_feed_58 rfl ?_
          refine gfX_22 B eX0_feed_59 ?_
          refine j_const B eX0_feed_62 ?_
          refine j_iadd B eX0_feed_63 ?_
          refine pfX_22 B eX0_feed_64 ho (fun w9 ho => ?_)
          refine j_iinc (d := -1) (lv' := fun x10 => [(0, .ref (ad 99)), (1, .long a1), (4, .int x10)]) B eX0_feed_67 2 rfl (by decide) [1, 2, 0] (by decide) (fun _ => rfl) ho (fun x10 ho => ?_)
          refine j_goto B eX0_feed_70 ?_
          exact hself7 _ _ ho
    · refine j_const B eX0_feed_26 ?_
      exact j_iretw B hr hQ eX0_feed_28 ho
  · refine j_const B eX0_feed_12 ?_
    exact j_iretw B hr hQ eX0_feed_14 ho
def sX_now (w : Wd)  : Option (Int32) :=
  if (w.2.1 90 22) ≤ (w.2.1 90 23) then (some (-1 : Int32)) else (rd (inb (w.2.1 90 23) 120) (w.2.1 21 (Int32.toNatClampNeg (w.2.1 90 23))) fun v1 => some (v1 &&& (255 : Int32)))
abbrev rmX0_now : Room := { frames := 0, cells := 0, slots := 0, locals := 0 }
theorem pkX0_now : PkV yX0_now RX0 cX0_now 1 (some .int) 0 := ⟨q566, qs15, q57, q567, by decide +kernel⟩
set_option maxHeartbeats 4000000 in
theorem met_X0_now (l : Launch) (D : va_G) (g : Nat → ClassId) (ad sd : Nat → Nat) (w : Wd)  (sz : Nat) (r : Int32) (ho : sX_now w = some r) : Met l yX0_now (ws_ yX0_now cX0_now 1 (some .int)) rmX0_now (va_Pc [.ref (ad 99)] (MPre D vwCl (tysG g) (cellsX g ad w) (NXX sd (cellsX g ad w)) sz)) (QcI D vwCl (tysG g) (cellsX g ad w) r (va_A (cellsX g ad w) sz)) 0 0 (va_A (cellsX g ad w) sz) := by
  refine met_XJ (cw := cellsX g ad) (w := w) (cc := cX0_now) (lv := [(0, .ref (ad 99))]) pnX0 _ (Nat.le_of_ble_eq_true rfl) rfl ?_
  intro p e s m args below meth c R Q A B hN hr hsz hA hmm hRm hQ hAe
  have hX : NXA sd A s := by rw [hAe, ← hsz]; exact hN
  unfold sX_now at ho
  refine j_aload_n B eX0_now_0 0 rfl ?_
  refine gfX_23 B eX0_now_1 ?_
  refine j_aload_n B eX0_now_4 0 rfl ?_
  refine gfX_22 B eX0_now_5 ?_
  refine j_icmp_ge B eX0_now_8 ho (fun _ ho => ?_) (fun _ ho => ?_)
  · refine j_const B eX0_now_27 ?_
    exact j_iret B hr hQ eX0_now_28 ho
  · refine j_aload_n B eX0_now_11 0 rfl ?_
    refine gfX_21 B eX0_now_12 ?_
    refine j_aload_n B eX0_now_15 0 rfl ?_
    refine gfX_23 B eX0_now_16 ?_
    refine ldX_21 B eX0_now_19 ho (fun v1 ho => ?_)
    refine j_const B eX0_now_20 ?_
    refine j_iand B eX0_now_23 ?_
    refine j_goto B eX0_now_24 ?_
    exact j_iret B hr hQ eX0_now_28 ho
def sX_hasYoung_L4 (w : Wd) (a1 : Nat) : Int32 → Int32 → Option (Int32) :=
  fx (fun _ _ => none) (fun self5 x3 x4 =>
    if (8 : Int32) < x4 then (gd (isB x3) (some x3)) else (gd (decide (a1 < w.1 0)) (rd (decide (a1 < w.1 0) && inb x4 9) (w.2.1 (101 + 10 * a1) (Int32.toNatClampNeg x4)) fun v6 => jn (fun z7 => nm (x3 ||| z7) fun x9 => nm (x4 + (1 : Int32)) fun x10 => self5 x9 x10) fun J8 => if v6 = (-1 : Int32) then (J8 (0 : Int32)) else (gd (decide (a1 < w.1 0)) (rd (decide (a1 < w.1 0) && inb x4 9) (w.2.1 (101 + 10 * a1) (Int32.toNatClampNeg x4)) fun v11 => rd (inb v11 16 && decide (Int32.toNatClampNeg v11 < w.1 4)) (Int32.toNatClampNeg v11) fun k12 => gd (oOk w k12) (bd (sO_isYoung w k12) fun v13 => if v13 = 0 then (J8 (0 : Int32)) else (J8 (1 : Int32)))))))) FU
def sX_hasYoung (w : Wd) (a1 : Nat) : Option (Int32) :=
  nm (0 : Int32) fun x1 => nm (0 : Int32) fun x2 => sX_hasYoung_L4 w a1 x1 x2
abbrev rmX0_hasYoung : Room := { frames := 1, cells := 0, slots := 0, locals := 20 }
theorem pkX0_hasYoung : PkV yX0_hasYoung RX0 cX0_hasYoung 4 (some .boolean) 1 := ⟨q658, qs21, q57, q659, by decide +kernel⟩
set_option maxHeartbeats 4000000 in
theorem met_X0_hasYoung (l : Launch) (D : va_G) (g : Nat → ClassId) (ad sd : Nat → Nat) (w : Wd) (a1 : Nat) (sz : Nat) (r : Int32) (ho : sX_hasYoung w a1 = some r) : Met l yX0_hasYoung (ws_ yX0_hasYoung cX0_hasYoung 4 (some .boolean)) rmX0_hasYoung (va_Pc [.ref (ad 99), .ref (ad (100 + 10 * a1))] (MPre D vwCl (tysG g) (cellsX g ad w) (NXX sd (cellsX g ad w)) sz)) (QcI D vwCl (tysG g) (cellsX g ad w) r (va_A (cellsX g ad w) sz)) 0 0 (va_A (cellsX g ad w) sz) := by
  refine met_XJ (cw := cellsX g ad) (w := w) (cc := cX0_hasYoung) (lv := [(0, .ref (ad 99)), (1, .ref (ad (100 + 10 * a1)))]) pnX0 _ (Nat.le_of_ble_eq_true rfl) rfl ?_
  intro p e s m args below meth c R Q A B hN hr hsz hA hmm hRm hQ hAe
  have hX : NXA sd A s := by rw [hAe, ← hsz]; exact hN
  unfold sX_hasYoung at ho
  refine j_const B eX0_hasYoung_0 ?_
  refine j_istore_n (lv' := fun x1 => [(0, .ref (ad 99)), (1, .ref (ad (100 + 10 * a1))), (2, .int x1)]) B eX0_hasYoung_1 [1, 2, 0] (by decide) (fun _ => rfl) ho (fun x1 ho => ?_)
  refine j_const B eX0_hasYoung_2 ?_
  refine j_istore_n (lv' := fun x2 => [(0, .ref (ad 99)), (1, .ref (ad (100 + 10 * a1))), (2, .int x1), (3, .int x2)]) B eX0_hasYoung_3 [1, 2, 3, 0] (by decide) (fun _ => rfl) ho (fun x2 ho => ?_)
  unfold sX_hasYoung_L4 at ho
  refine fx2 (C := fun x3 x4 => XJ p l e R s m args below meth c 0 0 Q A D vwCl (cellsX g ad) 4 w 4 [(0, .ref (ad 99)), (1, .ref (ad (100 + 10 * a1))), (2, .int x3), (3, .int x4)] []) (fun self5 hself5 x3 x4 ho => ?_) FU _ _ ho
  refine j_iload_n B eX0_hasYoung_4 3 rfl ?_
  refine j_const B eX0_hasYoung_5 ?_
  refine j_icmp_gt B eX0_hasYoung_7 ho (fun _ ho => ?_) (fun _ ho => ?_)
  · refine j_iload_n B eX0_hasYoung_51 2 rfl ?_
    obtain ⟨hb, ho⟩ := gd_e ho
    exact j_zret B hr hb hQ eX0_hasYoung_52 ho
  · refine j_iload_n B eX0_hasYoung_10 2 rfl ?_
    refine j_aload_n B eX0_hasYoung_11 1 rfl ?_
    refine gfBNr (j := 4) B hX (by decide) nq306 rfl eX0_hasYoung_12 ho (fun ho => ?_)
    refine j_iload_n B eX0_hasYoung_15 3 rfl ?_
    refine ldC B eX0_hasYoung_16 ho (fun v6 ho => ?_)
    refine j_const B eX0_hasYoung_17 ?_
    refine jn1 (C := fun z7 => XJ p l e R s m args below meth c 0 0 Q A D vwCl (cellsX g ad) 4 w 43 [(0, .ref (ad 99)), (1, .ref (ad (100 + 10 * a1))), (3, .int x4)] [.int z7, .int x3]) ho (fun z7 ho => ?_) (fun J8 hJ8 ho => ?_)
    · refine j_ior B eX0_hasYoung_43 ?_
      refine j_istore_n (lv' := fun x9 => [(0, .ref (ad 99)), (1, .ref (ad (100 + 10 * a1))), (2, .int x9), (3, .int x4)]) B eX0_hasYoung_44 [1, 2, 0, 3] (by decide) (fun _ => rfl) ho (fun x9 ho => ?_)
      refine j_iinc (d := 1) (lv' := fun x10 => [(0, .ref (ad 99)), (1, .ref (ad (100 + 10 * a1))), (2, .int x9), (3, .int x10)]) B eX0_hasYoung_45 3 rfl (by decide) [1, 2, 3, 0] (by decide) (fun _ => rfl) ho (fun x10 ho => ?_)
      refine j_goto B eX0_hasYoung_48 ?_
      exact hself5 _ _ ho
    · refine j_icmp_eq B eX0_hasYoung_18 ho (fun _ ho => ?_) (fun _ ho => ?_)
      · refine j_const B eX0_hasYoung_42 ?_
        refine j_lsub (lv' := [(0, .ref (ad 99)), (1, .ref (ad (100 + 10 * a1))), (3, .int x4)]) [0, 1, 3] rfl ?_
        exact hJ8 _ ho
      · refine j_aload_n B eX0_hasYoung_21 0 rfl ?_
        refine gfX_0 B eX0_hasYoung_22 ?_
        refine j_aload_n B eX0_hasYoung_25 1 rfl ?_
        refine gfBNr (j := 4) B hX (by decide) nq306 rfl eX0_hasYoung_26 ho (fun ho => ?_)
        refine j_iload_n B eX0_hasYoung_29 3 rfl ?_
        refine ldC B eX0_hasYoung_30 ho (fun v11 ho => ?_)
        refine alX_0 B eX0_hasYoung_31 ho (fun k12 ho => ?_)
        refine cO_isYoung B hA hX hRm ⟨Nat.le_of_ble_eq_true rfl, Nat.le_of_ble_eq_true rfl⟩ (Nat.le_of_ble_eq_true rfl) ⟨Nat.zero_le _, Nat.zero_le _⟩ eX0_hasYoung_32 ho (fun v13 ho => ?_)
        refine j_if_eq B eX0_hasYoung_35 ho (fun _ ho => ?_) (fun _ ho => ?_)
        · refine j_const B eX0_hasYoung_42 ?_
          refine j_lsub (lv' := [(0, .ref (ad 99)), (1, .ref (ad (100 + 10 * a1))), (3, .int x4)]) [0, 1, 3] rfl ?_
          exact hJ8 _ ho
        · refine j_const B eX0_hasYoung_38 ?_
          refine j_goto B eX0_hasYoung_39 ?_
          refine j_lsub (lv' := [(0, .ref (ad 99)), (1, .ref (ad (100 + 10 * a1))), (3, .int x4)]) [0, 1, 3] rfl ?_
          exact hJ8 _ ho
def sU_value (w : Wd) (a0 : Nat) (a1 : Int32) (a2 : Nat) (a3 : Int32) : Option (Int32) :=
  if a1 = (0 : Int32) then (gd (decide (a0 < w.1 2)) (gd (decide (a0 < w.1 2)) (rd (inb (irm (w.2.1 90 4) (30 : Int32)) 30) (w.2.1 17 (Int32.toNatClampNeg (irm (w.2.1 90 4) (30 : Int32)))) fun v1 => some v1))) else (if a1 = (1 : Int32) then (gd (decide (a0 < w.1 2)) (gd (decide (a0 < w.1 2)) (rd (inb (irm (w.2.1 90 4) (30 : Int32)) 30) (w.2.1 18 (Int32.toNatClampNeg (irm (w.2.1 90 4) (30 : Int32)))) fun v2 => some v2))) else (if a1 = (2 : Int32) then (some a3) else (if a1 = (3 : Int32) then (gd (decide (a0 < w.1 2)) (some (irm ((w.2.1 90 4) / (30 : Int32)) (12 : Int32)))) else (if a1 = (4 : Int32) then (gd (decide (a2 < w.1 0)) (bd (sB_seats w a2) fun v3 => some v3)) else (if a1 = (5 : Int32) then (gd (decide (a0 < w.1 2)) (bd (sX_hasYoung w a2) fun v4 => if v4 = 0 then (some (0 : Int32)) else (some (1 : Int32)))) else (gd (decide (a0 < w.1 2)) (if (2 : Int32) ≤ (irm ((w.2.1 90 4) / (30 : Int32)) (12 : Int32)) then (some (0 : Int32)) else (gd (decide (a0 < w.1 2)) (gd (decide (a0 < w.1 2)) (rd (inb (irm (w.2.1 90 4) (30 : Int32)) 30) (w.2.1 17 (Int32.toNatClampNeg (irm (w.2.1 90 4) (30 : Int32)))) fun v5 => if (10 : Int32) ≤ v5 then (some (0 : Int32)) else (some (1 : Int32))))))))))))
abbrev rmX8_value : Room := { frames := 2, cells := 0, slots := 0, locals := 43 }
theorem pkX8_value : PkV yX8_value RX8 cX8_value 4 (some .int) 3 := ⟨q653, qs20, q66, q654, by decide +kernel⟩
set_option maxHeartbeats 4000000 in
theorem met_X8_value (l : Launch) (D : va_G) (g : Nat → ClassId) (ad sd : Nat → Nat) (w : Wd) (a0 : Nat) (a1 : Int32) (a2 : Nat) (a3 : Int32) (sz : Nat) (r : Int32) (ho : sU_value w a0 a1 a2 a3 = some r) : Met l yX8_value (ws_ yX8_value cX8_value 4 (some .int)) rmX8_value (va_Pc [.ref (ad (103 + 10 * a0)), .int a1, .ref (ad (100 + 10 * a2)), .int a3] (MPre D vwCl (tysG g) (cellsX g ad w) (NXX sd (cellsX g ad w)) sz)) (QcI D vwCl (tysG g) (cellsX g ad w) r (va_A (cellsX g ad w) sz)) 0 0 (va_A (cellsX g ad w) sz) := by
  refine met_XJ (cw := cellsX g ad) (w := w) (cc := cX8_value) (lv := [(0, .ref (ad (103 + 10 * a0))), (1, .int a1), (2, .ref (ad (100 + 10 * a2))), (3, .int a3)]) pnX8 _ (Nat.le_of_ble_eq_true rfl) rfl ?_
  intro p e s m args below meth c R Q A B hN hr hsz hA hmm hRm hQ hAe
  have hX : NXA sd A s := by rw [hAe, ← hsz]; exact hN
  unfold sU_value at ho
  refine j_iload_n B eX8_value_0 1 rfl ?_
  rcases sw_e ho with ⟨hs0, ho⟩ | ⟨hs0, ho⟩
  · refine j_tswIn (tgt := 40) B eX8_value_1 0 hs0 (by decide) (by decide) rfl (by decide) ?_
    refine j_aload_n B eX8_value_40 0 rfl ?_
    refine gfRr (j := 7) B (by decide) q542 rfl eX8_value_41 ho (fun ho => ?_)
    refine gfXN_17 B hX eX8_value_44 ?_
    refine j_aload_n B eX8_value_47 0 rfl ?_
    refine gfRr (j := 7) B (by decide) q542 rfl eX8_value_48 ho (fun ho => ?_)
    refine gfXN_4 B hX eX8_value_51 ?_
    refine j_const B eX8_value_54 ?_
    refine j_irm B eX8_value_56 (by decide) ?_
    refine ldX_17 B eX8_value_57 ho (fun v1 ho => ?_)
    exact j_iret B hr hQ eX8_value_58 ho
  · rcases sw_e ho with ⟨hs1, ho⟩ | ⟨hs1, ho⟩
    · refine j_tswIn (tgt := 59) B eX8_value_1 1 hs1 (by decide) (by decide) rfl (by decide) ?_
      refine j_aload_n B eX8_value_59 0 rfl ?_
      refine gfRr (j := 7) B (by decide) q542 rfl eX8_value_60 ho (fun ho => ?_)
      refine gfXN_18 B hX eX8_value_63 ?_
      refine j_aload_n B eX8_value_66 0 rfl ?_
      refine gfRr (j := 7) B (by decide) q542 rfl eX8_value_67 ho (fun ho => ?_)
      refine gfXN_4 B hX eX8_value_70 ?_
      refine j_const B eX8_value_73 ?_
      refine j_irm B eX8_value_75 (by decide) ?_
      refine ldX_18 B eX8_value_76 ho (fun v2 ho => ?_)
      exact j_iret B hr hQ eX8_value_77 ho
    · rcases sw_e ho with ⟨hs2, ho⟩ | ⟨hs2, ho⟩
      · refine j_tswIn (tgt := 78) B eX8_value_1 2 hs2 (by decide) (by decide) rfl (by decide) ?_
        refine j_iload_n B eX8_value_78 3 rfl ?_
        exact j_iret B hr hQ eX8_value_79 ho
      · rcases sw_e ho with ⟨hs3, ho⟩ | ⟨hs3, ho⟩
        · refine j_tswIn (tgt := 80) B eX8_value_1 3 hs3 (by decide) (by decide) rfl (by decide) ?_
          refine j_aload_n B eX8_value_80 0 rfl ?_
          refine gfRr (j := 7) B (by decide) q542 rfl eX8_value_81 ho (fun ho => ?_)
          refine gfXN_4 B hX eX8_value_84 ?_
          refine j_const B eX8_value_87 ?_
          refine j_idiv B eX8_value_89 (by decide) ?_
          refine j_const B eX8_value_90 ?_
          refine j_irm B eX8_value_92 (by decide) ?_
          exact j_iret B hr hQ eX8_value_93 ho
        · rcases sw_e ho with ⟨hs4, ho⟩ | ⟨hs4, ho⟩
          · refine j_tswIn (tgt := 94) B eX8_value_1 4 hs4 (by decide) (by decide) rfl (by decide) ?_
            refine j_aload_n B eX8_value_94 2 rfl ?_
            obtain ⟨hg, ho⟩ := gd_e ho
            refine j_callVi (As := []) B hA (met_X7_seats l D g ad sd w a2) (NXX_ok hX) pkX7_seats q655 _ (at_boat (of_decide_eq_true hg)) rfl rfl rfl hRm ⟨Nat.le_of_ble_eq_true rfl, Nat.le_of_ble_eq_true rfl⟩ rfl rfl (Nat.le_of_ble_eq_true rfl) ⟨Nat.zero_le _, Nat.zero_le _⟩ eX8_value_95 ho (fun v3 ho => ?_)
            exact j_iret B hr hQ eX8_value_98 ho
          · rcases sw_e ho with ⟨hs5, ho⟩ | ⟨hs5, ho⟩
            · refine j_tswIn (tgt := 99) B eX8_value_1 5 hs5 (by decide) (by decide) rfl (by decide) ?_
              refine j_aload_n B eX8_value_99 0 rfl ?_
              refine gfRr (j := 7) B (by decide) q542 rfl eX8_value_100 ho (fun ho => ?_)
              refine j_aload_n B eX8_value_103 2 rfl ?_
              refine j_callNi (As := [.ref (ad (100 + 10 * a2))]) B hA (met_X0_hasYoung l D g ad sd w a2) (NXX_ok hX) pkX0_hasYoung (hX.1 _ nq656) 0 rfl rfl rfl rfl hRm ⟨Nat.le_of_ble_eq_true rfl, Nat.le_of_ble_eq_true rfl⟩ rfl rfl (Nat.le_of_ble_eq_true rfl) ⟨Nat.zero_le _, Nat.zero_le _⟩ eX8_value_104 ho (fun v4 ho => ?_)
              refine j_if_eq B eX8_value_107 ho (fun _ ho => ?_) (fun _ ho => ?_)
              · refine j_const B eX8_value_114 ?_
                exact j_iret B hr hQ eX8_value_115 ho
              · refine j_const B eX8_value_110 ?_
                refine j_goto B eX8_value_111 ?_
                exact j_iret B hr hQ eX8_value_115 ho
            · refine j_tswOut (tgt := 116) B eX8_value_1 (by have a0 := lv_neT hs0 (a := 0) (by decide); have a1 := lv_neT hs1 (a := 1) (by decide); have a2 := lv_neT hs2 (a := 2) (by decide); have a3 := lv_neT hs3 (a := 3) (by decide); have a4 := lv_neT hs4 (a := 4) (by decide); have a5 := lv_neT hs5 (a := 5) (by decide); omega) (by decide) ?_
              refine j_aload_n B eX8_value_116 0 rfl ?_
              refine gfRr (j := 7) B (by decide) q542 rfl eX8_value_117 ho (fun ho => ?_)
              refine gfXN_4 B hX eX8_value_120 ?_
              refine j_const B eX8_value_123 ?_
              refine j_idiv B eX8_value_125 (by decide) ?_
              refine j_const B eX8_value_126 ?_
              refine j_irm B eX8_value_128 (by decide) ?_
              refine j_const B eX8_value_129 ?_
              refine j_icmp_ge B eX8_value_130 ho (fun _ ho => ?_) (fun _ ho => ?_)
              · refine j_const B eX8_value_160 ?_
                exact j_iret B hr hQ eX8_value_161 ho
              · refine j_aload_n B eX8_value_133 0 rfl ?_
                refine gfRr (j := 7) B (by decide) q542 rfl eX8_value_134 ho (fun ho => ?_)
                refine gfXN_17 B hX eX8_value_137 ?_
                refine j_aload_n B eX8_value_140 0 rfl ?_
                refine gfRr (j := 7) B (by decide) q542 rfl eX8_value_141 ho (fun ho => ?_)
                refine gfXN_4 B hX eX8_value_144 ?_
                refine j_const B eX8_value_147 ?_
                refine j_irm B eX8_value_149 (by decide) ?_
                refine ldX_17 B eX8_value_150 ho (fun v5 ho => ?_)
                refine j_const B eX8_value_151 ?_
                refine j_icmp_ge B eX8_value_153 ho (fun _ ho => ?_) (fun _ ho => ?_)
                · refine j_const B eX8_value_160 ?_
                  exact j_iret B hr hQ eX8_value_161 ho
                · refine j_const B eX8_value_156 ?_
                  refine j_goto B eX8_value_157 ?_
                  exact j_iret B hr hQ eX8_value_161 ho
def sU_holds_L23 (w : Wd) (a0 : Nat) (a1 : Nat) (a2 : Int32) : Int32 → Option (Int32) :=
  fx (fun _ => none) (fun self5 x4 =>
    rd (decide (a0 < w.1 2)) (w.2.1 (103 + 10 * a0) 2) fun v6 => if v6 ≤ x4 then (some (1 : Int32)) else (gd (decide (a0 < w.1 2)) (rd (decide (a0 < w.1 2) && inb x4 3) (w.2.1 (104 + 10 * a0) (Int32.toNatClampNeg x4)) fun v7 => gd (decide (a0 < w.1 2)) (bd (sU_value w a0 v7 a1 a2) fun v8 => nm v8 fun x9 => gd (decide (a0 < w.1 2)) (rd (decide (a0 < w.1 2) && inb x4 3) (w.2.1 (105 + 10 * a0) (Int32.toNatClampNeg x4)) fun v10 => jn (fun z11 => nm z11 fun x13 => gd (decide (a0 < w.1 2)) (rd (decide (a0 < w.1 2) && inb x4 3) (w.2.1 (107 + 10 * a0) (Int32.toNatClampNeg x4)) fun v14 => if x13 = v14 then (some (0 : Int32)) else (nm (x4 + (1 : Int32)) fun x15 => self5 x15))) fun J12 => if v10 = (61 : Int32) then (gd (decide (a0 < w.1 2)) (rd (decide (a0 < w.1 2) && inb x4 3) (w.2.1 (106 + 10 * a0) (Int32.toNatClampNeg x4)) fun v19 => if x9 = v19 then (J12 (1 : Int32)) else (J12 (0 : Int32)))) else (gd (decide (a0 < w.1 2)) (rd (decide (a0 < w.1 2) && inb x4 3) (w.2.1 (105 + 10 * a0) (Int32.toNatClampNeg x4)) fun v16 => if v16 = (60 : Int32) then (gd (decide (a0 < w.1 2)) (rd (decide (a0 < w.1 2) && inb x4 3) (w.2.1 (106 + 10 * a0) (Int32.toNatClampNeg x4)) fun v18 => if v18 ≤ x9 then (J12 (0 : Int32)) else (J12 (1 : Int32)))) else (gd (decide (a0 < w.1 2)) (rd (decide (a0 < w.1 2) && inb x4 3) (w.2.1 (106 + 10 * a0) (Int32.toNatClampNeg x4)) fun v17 => if x9 ≤ v17 then (J12 (0 : Int32)) else (J12 (1 : Int32))))))))))) FU
def sU_holds (w : Wd) (a0 : Nat) (a1 : Nat) (a2 : Int32) : Option (Int32) :=
  rd (decide (a0 < w.1 2)) (w.2.1 (103 + 10 * a0) 1) fun v1 => jn (nm (0 : Int32) fun x3 => sU_holds_L23 w a0 a1 a2 x3) fun J2 => if v1 = (-1 : Int32) then (J2) else (rd (decide (a0 < w.1 2)) (w.2.1 (103 + 10 * a0) 1) fun v20 => rd (decide (a1 < w.1 0)) (w.2.1 (100 + 10 * a1) 0) fun v21 => if v20 = v21 then (J2) else (some (0 : Int32)))
abbrev rmX8_holds : Room := { frames := 3, cells := 0, slots := 0, locals := 66 }
theorem pkX8_holds : PkV yX8_holds RX8 cX8_holds 6 (some .boolean) 2 := ⟨q648, q649, q66, q650, by decide +kernel⟩
set_option maxHeartbeats 4000000 in
theorem met_X8_holds (l : Launch) (D : va_G) (g : Nat → ClassId) (ad sd : Nat → Nat) (w : Wd) (a0 : Nat) (a1 : Nat) (a2 : Int32) (sz : Nat) (r : Int32) (ho : sU_holds w a0 a1 a2 = some r) : Met l yX8_holds (ws_ yX8_holds cX8_holds 6 (some .boolean)) rmX8_holds (va_Pc [.ref (ad (103 + 10 * a0)), .ref (ad (100 + 10 * a1)), .int a2] (MPre D vwCl (tysG g) (cellsX g ad w) (NXX sd (cellsX g ad w)) sz)) (QcI D vwCl (tysG g) (cellsX g ad w) r (va_A (cellsX g ad w) sz)) 0 0 (va_A (cellsX g ad w) sz) := by
  refine met_XJ (cw := cellsX g ad) (w := w) (cc := cX8_holds) (lv := [(0, .ref (ad (103 + 10 * a0))), (1, .ref (ad (100 + 10 * a1))), (2, .int a2)]) pnX8 _ (Nat.le_of_ble_eq_true rfl) rfl ?_
  intro p e s m args below meth c R Q A B hN hr hsz hA hmm hRm hQ hAe
  have hX : NXA sd A s := by rw [hAe, ← hsz]; exact hN
  unfold sU_holds at ho
  refine j_aload_n B eX8_holds_0 0 rfl ?_
  refine gfR (j := 1) B (by decide) q530 rfl eX8_holds_1 ho (fun v1 ho => ?_)
  refine j_const B eX8_holds_4 ?_
  refine jn0 (C := XJ p l e R s m args below meth c 0 0 Q A D vwCl (cellsX g ad) 6 w 21 [(0, .ref (ad (103 + 10 * a0))), (1, .ref (ad (100 + 10 * a1))), (2, .int a2)] []) ho (fun ho => ?_) (fun J2 hJ2 ho => ?_)
  · refine j_const B eX8_holds_21 ?_
    refine j_istore_n (lv' := fun x3 => [(0, .ref (ad (103 + 10 * a0))), (1, .ref (ad (100 + 10 * a1))), (2, .int a2), (3, .int x3)]) B eX8_holds_22 [1, 2, 3, 0] (by decide) (fun _ => rfl) ho (fun x3 ho => ?_)
    unfold sU_holds_L23 at ho
    refine fx1 (C := fun x4 => XJ p l e R s m args below meth c 0 0 Q A D vwCl (cellsX g ad) 6 w 23 [(0, .ref (ad (103 + 10 * a0))), (1, .ref (ad (100 + 10 * a1))), (2, .int a2), (3, .int x4)] []) (fun self5 hself5 x4 ho => ?_) FU _ ho
    refine j_iload_n B eX8_holds_23 3 rfl ?_
    refine j_aload_n B eX8_holds_24 0 rfl ?_
    refine gfR (j := 2) B (by decide) q532 rfl eX8_holds_25 ho (fun v6 ho => ?_)
    refine j_icmp_ge B eX8_holds_28 ho (fun _ ho => ?_) (fun _ ho => ?_)
    · refine j_const B eX8_holds_142 ?_
      exact j_zret B hr rfl hQ eX8_holds_143 ho
    · refine j_aload_n B eX8_holds_31 0 rfl ?_
      refine j_aload_n B eX8_holds_32 0 rfl ?_
      refine gfRr (j := 3) B (by decide) q534 rfl eX8_holds_33 ho (fun ho => ?_)
      refine j_iload_n B eX8_holds_36 3 rfl ?_
      refine ldR4 B eX8_holds_37 ho (fun v7 ho => ?_)
      refine j_aload_n B eX8_holds_38 1 rfl ?_
      refine j_iload_n B eX8_holds_39 2 rfl ?_
      obtain ⟨hg, ho⟩ := gd_e ho
      refine j_callVi (As := [.int v7, .ref (ad (100 + 10 * a1)), .int a2]) B hA (met_X8_value l D g ad sd w a0 v7 a1 a2) (NXX_ok hX) pkX8_value q651 _ (at_rule (of_decide_eq_true hg)) rfl rfl rfl hRm ⟨Nat.le_of_ble_eq_true rfl, Nat.le_of_ble_eq_true rfl⟩ rfl rfl (Nat.le_of_ble_eq_true rfl) ⟨Nat.zero_le _, Nat.zero_le _⟩ eX8_holds_40 ho (fun v8 ho => ?_)
      refine j_istore (lv' := fun x9 => [(0, .ref (ad (103 + 10 * a0))), (1, .ref (ad (100 + 10 * a1))), (2, .int a2), (3, .int x4), (4, .int x9)]) B eX8_holds_43 [1, 2, 3, 4, 0] (by decide) (fun _ => rfl) ho (fun x9 ho => ?_)
      refine j_aload_n B eX8_holds_45 0 rfl ?_
      refine gfRr (j := 4) B (by decide) q536 rfl eX8_holds_46 ho (fun ho => ?_)
      refine j_iload_n B eX8_holds_49 3 rfl ?_
      refine ldR5 B eX8_holds_50 ho (fun v10 ho => ?_)
      refine j_const B eX8_holds_51 ?_
      refine jn1 (C := fun z11 => XJ p l e R s m args below meth c 0 0 Q A D vwCl (cellsX g ad) 6 w 121 [(0, .ref (ad (103 + 10 * a0))), (1, .ref (ad (100 + 10 * a1))), (2, .int a2), (3, .int x4)] [.int z11]) ho (fun z11 ho => ?_) (fun J12 hJ12 ho => ?_)
      · refine j_istore (lv' := fun x13 => [(0, .ref (ad (103 + 10 * a0))), (1, .ref (ad (100 + 10 * a1))), (2, .int a2), (3, .int x4), (5, .int x13)]) B eX8_holds_121 [1, 2, 3, 4, 0] (by decide) (fun _ => rfl) ho (fun x13 ho => ?_)
        refine j_iload B eX8_holds_123 4 rfl ?_
        refine j_aload_n B eX8_holds_125 0 rfl ?_
        refine gfRr (j := 6) B (by decide) q540 rfl eX8_holds_126 ho (fun ho => ?_)
        refine j_iload_n B eX8_holds_129 3 rfl ?_
        refine ldR7 B eX8_holds_130 ho (fun v14 ho => ?_)
        refine j_icmp_ne B eX8_holds_131 ho (fun _ ho => ?_) (fun _ ho => ?_)
        · refine j_iinc (d := 1) (lv' := fun x15 => [(0, .ref (ad (103 + 10 * a0))), (1, .ref (ad (100 + 10 * a1))), (2, .int a2), (3, .int x15)]) B eX8_holds_136 3 rfl (by decide) [1, 2, 3, 0] (by decide) (fun _ => rfl) ho (fun x15 ho => ?_)
          refine j_goto B eX8_holds_139 ?_
          exact hself5 _ ho
        · refine j_const B eX8_holds_134 ?_
          exact j_zret B hr rfl hQ eX8_holds_135 ho
      · refine j_icmp_ne B eX8_holds_53 ho (fun _ ho => ?_) (fun _ ho => ?_)
        · refine j_aload_n B eX8_holds_75 0 rfl ?_
          refine gfRr (j := 4) B (by decide) q536 rfl eX8_holds_76 ho (fun ho => ?_)
          refine j_iload_n B eX8_holds_79 3 rfl ?_
          refine ldR5 B eX8_holds_80 ho (fun v16 ho => ?_)
          refine j_const B eX8_holds_81 ?_
          refine j_icmp_ne B eX8_holds_83 ho (fun _ ho => ?_) (fun _ ho => ?_)
          · refine j_iload B eX8_holds_105 4 rfl ?_
            refine j_aload_n B eX8_holds_107 0 rfl ?_
            refine gfRr (j := 5) B (by decide) q538 rfl eX8_holds_108 ho (fun ho => ?_)
            refine j_iload_n B eX8_holds_111 3 rfl ?_
            refine ldR6 B eX8_holds_112 ho (fun v17 ho => ?_)
            refine j_icmp_le B eX8_holds_113 ho (fun _ ho => ?_) (fun _ ho => ?_)
            · refine j_const B eX8_holds_120 ?_
              refine j_lsub (lv' := [(0, .ref (ad (103 + 10 * a0))), (1, .ref (ad (100 + 10 * a1))), (2, .int a2), (3, .int x4)]) [0, 1, 2, 3] rfl ?_
              exact hJ12 _ ho
            · refine j_const B eX8_holds_116 ?_
              refine j_goto B eX8_holds_117 ?_
              refine j_lsub (lv' := [(0, .ref (ad (103 + 10 * a0))), (1, .ref (ad (100 + 10 * a1))), (2, .int a2), (3, .int x4)]) [0, 1, 2, 3] rfl ?_
              exact hJ12 _ ho
          · refine j_iload B eX8_holds_86 4 rfl ?_
            refine j_aload_n B eX8_holds_88 0 rfl ?_
            refine gfRr (j := 5) B (by decide) q538 rfl eX8_holds_89 ho (fun ho => ?_)
            refine j_iload_n B eX8_holds_92 3 rfl ?_
            refine ldR6 B eX8_holds_93 ho (fun v18 ho => ?_)
            refine j_icmp_ge B eX8_holds_94 ho (fun _ ho => ?_) (fun _ ho => ?_)
            · refine j_const B eX8_holds_101 ?_
              refine j_goto B eX8_holds_102 ?_
              refine j_lsub (lv' := [(0, .ref (ad (103 + 10 * a0))), (1, .ref (ad (100 + 10 * a1))), (2, .int a2), (3, .int x4)]) [0, 1, 2, 3] rfl ?_
              exact hJ12 _ ho
            · refine j_const B eX8_holds_97 ?_
              refine j_goto B eX8_holds_98 ?_
              refine j_lsub (lv' := [(0, .ref (ad (103 + 10 * a0))), (1, .ref (ad (100 + 10 * a1))), (2, .int a2), (3, .int x4)]) [0, 1, 2, 3] rfl ?_
              exact hJ12 _ ho
        · refine j_iload B eX8_holds_56 4 rfl ?_
          refine j_aload_n B eX8_holds_58 0 rfl ?_
          refine gfRr (j := 5) B (by decide) q538 rfl eX8_holds_59 ho (fun ho => ?_)
          refine j_iload_n B eX8_holds_62 3 rfl ?_
          refine ldR6 B eX8_holds_63 ho (fun v19 ho => ?_)
          refine j_icmp_ne B eX8_holds_64 ho (fun _ ho => ?_) (fun _ ho => ?_)
          · refine j_const B eX8_holds_71 ?_
            refine j_goto B eX8_holds_72 ?_
            refine j_lsub (lv' := [(0, .ref (ad (103 + 10 * a0))), (1, .ref (ad (100 + 10 * a1))), (2, .int a2), (3, .int x4)]) [0, 1, 2, 3] rfl ?_
            exact hJ12 _ ho
          · refine j_const B eX8_holds_67 ?_
            refine j_goto B eX8_holds_68 ?_
            refine j_lsub (lv' := [(0, .ref (ad (103 + 10 * a0))), (1, .ref (ad (100 + 10 * a1))), (2, .int a2), (3, .int x4)]) [0, 1, 2, 3] rfl ?_
            exact hJ12 _ ho
  · refine j_icmp_eq B eX8_holds_5 ho (fun _ ho => ?_) (fun _ ho => ?_)
    · exact hJ2 ho
    · refine j_aload_n B eX8_holds_8 0 rfl ?_
      refine gfR (j := 1) B (by decide) q530 rfl eX8_holds_9 ho (fun v20 ho => ?_)
      refine j_aload_n B eX8_holds_12 1 rfl ?_
      refine gfBN (j := 0) B hX (by decide) nq298 rfl eX8_holds_13 ho (fun v21 ho => ?_)
      refine j_icmp_eq B eX8_holds_16 ho (fun _ ho => ?_) (fun _ ho => ?_)
      · exact hJ2 ho
      · refine j_const B eX8_holds_19 ?_
        exact j_zret B hr rfl hQ eX8_holds_20 ho
def sX_ruling_L7 (w : Wd) (a1 : Nat) (a2 : Int32) : Int32 → Option (Int32) :=
  fx (fun _ => none) (fun self3 x2 =>
    if x2 < 0 then (some (-1 : Int32)) else (rd (inb x2 10 && decide (Int32.toNatClampNeg x2 < w.1 5)) (Int32.toNatClampNeg x2) fun k4 => gd (decide (k4 < w.1 2)) (bd (sU_holds w k4 a1 a2) fun v5 => if v5 = 0 then (nm (x2 + (-1 : Int32)) fun x6 => self3 x6) else (some x2)))) FU
def sX_ruling (w : Wd) (a1 : Nat) (a2 : Int32) : Option (Int32) :=
  nm ((w.2.1 90 20) - (1 : Int32)) fun x1 => sX_ruling_L7 w a1 a2 x1
abbrev rmX0_ruling : Room := { frames := 4, cells := 0, slots := 0, locals := 91 }
theorem pkX0_ruling : PkV yX0_ruling RX0 cX0_ruling 4 (some .int) 2 := ⟨q645, qs19, q57, q646, by decide +kernel⟩
set_option maxHeartbeats 4000000 in
theorem met_X0_ruling (l : Launch) (D : va_G) (g : Nat → ClassId) (ad sd : Nat → Nat) (w : Wd) (a1 : Nat) (a2 : Int32) (sz : Nat) (r : Int32) (ho : sX_ruling w a1 a2 = some r) : Met l yX0_ruling (ws_ yX0_ruling cX0_ruling 4 (some .int)) rmX0_ruling (va_Pc [.ref (ad 99), .ref (ad (100 + 10 * a1)), .int a2] (MPre D vwCl (tysG g) (cellsX g ad w) (NXX sd (cellsX g ad w)) sz)) (QcI D vwCl (tysG g) (cellsX g ad w) r (va_A (cellsX g ad w) sz)) 0 0 (va_A (cellsX g ad w) sz) := by
  refine met_XJ (cw := cellsX g ad) (w := w) (cc := cX0_ruling) (lv := [(0, .ref (ad 99)), (1, .ref (ad (100 + 10 * a1))), (2, .int a2)]) pnX0 _ (Nat.le_of_ble_eq_true rfl) rfl ?_
  intro p e s m args below meth c R Q A B hN hr hsz hA hmm hRm hQ hAe
  have hX : NXA sd A s := by rw [hAe, ← hsz]; exact hN
  unfold sX_ruling at ho
  refine j_aload_n B eX0_ruling_0 0 rfl ?_
  refine gfX_20 B eX0_ruling_1 ?_
  refine j_const B eX0_ruling_4 ?_
  refine j_isub B eX0_ruling_5 ?_
  refine j_istore_n (lv' := fun x1 => [(0, .ref (ad 99)), (1, .ref (ad (100 + 10 * a1))), (2, .int a2), (3, .int x1)]) B eX0_ruling_6 [1, 2, 3, 0] (by decide) (fun _ => rfl) ho (fun x1 ho => ?_)
  unfold sX_ruling_L7 at ho
  refine fx1 (C := fun x2 => XJ p l e R s m args below meth c 0 0 Q A D vwCl (cellsX g ad) 4 w 7 [(0, .ref (ad 99)), (1, .ref (ad (100 + 10 * a1))), (2, .int a2), (3, .int x2)] []) (fun self3 hself3 x2 ho => ?_) FU _ ho
  refine j_iload_n B eX0_ruling_7 3 rfl ?_
  refine j_if_lt B eX0_ruling_8 ho (fun _ ho => ?_) (fun _ ho => ?_)
  · refine j_const B eX0_ruling_33 ?_
    exact j_iret B hr hQ eX0_ruling_34 ho
  · refine j_aload_n B eX0_ruling_11 0 rfl ?_
    refine gfX_19 B eX0_ruling_12 ?_
    refine j_iload_n B eX0_ruling_15 3 rfl ?_
    refine alX_19 B eX0_ruling_16 ho (fun k4 ho => ?_)
    refine j_aload_n B eX0_ruling_17 1 rfl ?_
    refine j_iload_n B eX0_ruling_18 2 rfl ?_
    obtain ⟨hg, ho⟩ := gd_e ho
    refine j_callVi (As := [.ref (ad (100 + 10 * a1)), .int a2]) B hA (met_X8_holds l D g ad sd w k4 a1 a2) (NXX_ok hX) pkX8_holds q647 _ (at_rule (of_decide_eq_true hg)) rfl rfl rfl hRm ⟨Nat.le_of_ble_eq_true rfl, Nat.le_of_ble_eq_true rfl⟩ rfl rfl (Nat.le_of_ble_eq_true rfl) ⟨Nat.zero_le _, Nat.zero_le _⟩ eX0_ruling_19 ho (fun v5 ho => ?_)
    refine j_if_eq B eX0_ruling_22 ho (fun _ ho => ?_) (fun _ ho => ?_)
    · refine j_iinc (d := -1) (lv' := fun x6 => [(0, .ref (ad 99)), (1, .ref (ad (100 + 10 * a1))), (2, .int a2), (3, .int x6)]) B eX0_ruling_27 3 rfl (by decide) [1, 2, 3, 0] (by decide) (fun _ => rfl) ho (fun x6 ho => ?_)
      refine j_goto B eX0_ruling_30 ?_
      exact hself3 _ ho
    · refine j_iload_n B eX0_ruling_25 3 rfl ?_
      exact j_iret B hr hQ eX0_ruling_26 ho
def sX_ruled (w : Wd) (a1 : Int32) (a2 : Int32) : Option (Int32) :=
  bd (sX_isBoat w a1) fun v1 => if v1 = 0 then (some (-1 : Int32)) else (bd (sX_in (Int32.toInt64 a2) (0 : Int64) (23 : Int64)) fun v2 => if v2 = 0 then (some (-2 : Int32)) else (rd (inb a1 8 && decide (Int32.toNatClampNeg a1 < w.1 3)) (Int32.toNatClampNeg a1) fun k3 => bd (sX_ruling w k3 a2) fun v4 => some v4))
abbrev rmX0_ruled : Room := { frames := 5, cells := 0, slots := 0, locals := 114 }
theorem pkX0_ruled : PkV yX0_ruled RX0 cX0_ruled 3 (some .int) 2 := ⟨q640, q641, q57, q642, by decide +kernel⟩
set_option maxHeartbeats 4000000 in
theorem met_X0_ruled (l : Launch) (D : va_G) (g : Nat → ClassId) (ad sd : Nat → Nat) (w : Wd) (a1 : Int32) (a2 : Int32) (sz : Nat) (r : Int32) (ho : sX_ruled w a1 a2 = some r) : Met l yX0_ruled (ws_ yX0_ruled cX0_ruled 3 (some .int)) rmX0_ruled (va_Pc [.ref (ad 99), .int a1, .int a2] (MPre D vwCl (tysG g) (cellsX g ad w) (NXX sd (cellsX g ad w)) sz)) (QcI D vwCl (tysG g) (cellsX g ad w) r (va_A (cellsX g ad w) sz)) 0 0 (va_A (cellsX g ad w) sz) := by
  refine met_XJ (cw := cellsX g ad) (w := w) (cc := cX0_ruled) (lv := [(0, .ref (ad 99)), (1, .int a1), (2, .int a2)]) pnX0 _ (Nat.le_of_ble_eq_true rfl) rfl ?_
  intro p e s m args below meth c R Q A B hN hr hsz hA hmm hRm hQ hAe
  have hX : NXA sd A s := by rw [hAe, ← hsz]; exact hN
  unfold sX_ruled at ho
  refine j_aload_n B eX0_ruled_0 0 rfl ?_
  refine j_iload_n B eX0_ruled_1 1 rfl ?_
  refine j_callVi (As := [.int a1]) B hA (met_X0_isBoat l D g ad sd w a1) (NXX_ok hX) pkX0_isBoat q337 0 rfl rfl rfl rfl hRm ⟨Nat.le_of_ble_eq_true rfl, Nat.le_of_ble_eq_true rfl⟩ rfl rfl (Nat.le_of_ble_eq_true rfl) ⟨Nat.zero_le _, Nat.zero_le _⟩ eX0_ruled_2 ho (fun v1 ho => ?_)
  refine j_if_ne B eX0_ruled_5 ho (fun _ ho => ?_) (fun _ ho => ?_)
  · refine j_iload_n B eX0_ruled_10 2 rfl ?_
    refine j_i2l B eX0_ruled_11 ?_
    refine j_lconst (v := 0) B eX0_ruled_12 rfl ?_
    refine j_ldc2 B eX0_ruled_13 q464 ?_
    refine j_callSi (As := [.long (Int32.toInt64 a2), .long (0 : Int64), .long (23 : Int64)]) B hA (met_X0_in l D _ _ _ (Int32.toInt64 a2) (0 : Int64) (23 : Int64)) NT_ok pkX0_in q224 rfl rfl hRm ⟨Nat.le_of_ble_eq_true rfl, Nat.le_of_ble_eq_true rfl⟩ rfl rfl (Nat.le_of_ble_eq_true rfl) ⟨Nat.zero_le _, Nat.zero_le _⟩ eX0_ruled_16 ho (fun v2 ho => ?_)
    refine j_if_eq B eX0_ruled_19 ho (fun _ ho => ?_) (fun _ ho => ?_)
    · refine j_const B eX0_ruled_36 ?_
      exact j_iret B hr hQ eX0_ruled_38 ho
    · refine j_aload_n B eX0_ruled_22 0 rfl ?_
      refine j_aload_n B eX0_ruled_23 0 rfl ?_
      refine gfX_1 B eX0_ruled_24 ?_
      refine j_iload_n B eX0_ruled_27 1 rfl ?_
      refine alX_1 B eX0_ruled_28 ho (fun k3 ho => ?_)
      refine j_iload_n B eX0_ruled_29 2 rfl ?_
      refine j_callVi (As := [.ref (ad (100 + 10 * k3)), .int a2]) B hA (met_X0_ruling l D g ad sd w k3 a2) (NXX_ok hX) pkX0_ruling q643 0 rfl rfl rfl rfl hRm ⟨Nat.le_of_ble_eq_true rfl, Nat.le_of_ble_eq_true rfl⟩ rfl rfl (Nat.le_of_ble_eq_true rfl) ⟨Nat.zero_le _, Nat.zero_le _⟩ eX0_ruled_30 ho (fun v4 ho => ?_)
      refine j_goto B eX0_ruled_33 ?_
      exact j_iret B hr hQ eX0_ruled_38 ho
  · refine j_const B eX0_ruled_8 ?_
    exact j_iret B hr hQ eX0_ruled_9 ho
def sX_mean_L4 (w : Wd) (a1 : Nat) (J4 : Int32 → Option (Int32)) : Int32 → Int32 → Option (Int32) :=
  fx (fun _ _ => none) (fun self12 x10 x11 =>
    gd (decide (a1 < w.1 0)) (bd (sB_seats w a1) fun v13 => if v13 ≤ x11 then (J4 x10) else (gd (decide (a1 < w.1 0)) (rd (decide (a1 < w.1 0) && inb x11 9) (w.2.1 (101 + 10 * a1) (Int32.toNatClampNeg x11)) fun v14 => if v14 = (-1 : Int32) then (some (-1 : Int32)) else (gd (decide (a1 < w.1 0)) (rd (decide (a1 < w.1 0) && inb x11 9) (w.2.1 (101 + 10 * a1) (Int32.toNatClampNeg x11)) fun v15 => rd (inb v15 16 && decide (Int32.toNatClampNeg v15 < w.1 4)) (Int32.toNatClampNeg v15) fun k16 => rd (oOk w k16) (w.2.1 (102 + 10 * k16) 1) fun v17 => nm (x10 + v17) fun x18 => nm (x11 + (1 : Int32)) fun x19 => self12 x18 x19)))))) FU
def sX_mean (w : Wd) (a1 : Nat) : Option (Int32) :=
  nm (0 : Int32) fun x1 => nm (0 : Int32) fun x2 => jn (fun x3 => gd (decide (a1 < w.1 0)) (bd (sB_hasCox w a1) fun v5 => jn (gd (decide (a1 < w.1 0)) (bd (sB_seats w a1) fun v7 => rd (!decide (v7 = 0)) (x3 / v7) fun v8 => some v8)) fun J6 => if v5 = 0 then (J6) else (gd (decide (a1 < w.1 0)) (rd (decide (a1 < w.1 0) && inb (8 : Int32) 9) (w.2.1 (101 + 10 * a1) (Int32.toNatClampNeg (8 : Int32))) fun v9 => if v9 = (-1 : Int32) then (some (-1 : Int32)) else (J6))))) fun J4 => sX_mean_L4 w a1 J4 x1 x2
abbrev rmX0_mean : Room := { frames := 1, cells := 0, slots := 0, locals := 20 }
theorem pkX0_mean : PkV yX0_mean RX0 cX0_mean 4 (some .int) 1 := ⟨q684, qs24, q57, q685, by decide +kernel⟩
set_option maxHeartbeats 4000000 in
theorem met_X0_mean (l : Launch) (D : va_G) (g : Nat → ClassId) (ad sd : Nat → Nat) (w : Wd) (a1 : Nat) (sz : Nat) (r : Int32) (ho : sX_mean w a1 = some r) : Met l yX0_mean (ws_ yX0_mean cX0_mean 4 (some .int)) rmX0_mean (va_Pc [.ref (ad 99), .ref (ad (100 + 10 * a1))] (MPre D vwCl (tysG g) (cellsX g ad w) (NXX sd (cellsX g ad w)) sz)) (QcI D vwCl (tysG g) (cellsX g ad w) r (va_A (cellsX g ad w) sz)) 0 0 (va_A (cellsX g ad w) sz) := by
  refine met_XJ (cw := cellsX g ad) (w := w) (cc := cX0_mean) (lv := [(0, .ref (ad 99)), (1, .ref (ad (100 + 10 * a1)))]) pnX0 _ (Nat.le_of_ble_eq_true rfl) rfl ?_
  intro p e s m args below meth c R Q A B hN hr hsz hA hmm hRm hQ hAe
  have hX : NXA sd A s := by rw [hAe, ← hsz]; exact hN
  unfold sX_mean at ho
  refine j_const B eX0_mean_0 ?_
  refine j_istore_n (lv' := fun x1 => [(0, .ref (ad 99)), (1, .ref (ad (100 + 10 * a1))), (2, .int x1)]) B eX0_mean_1 [1, 2, 0] (by decide) (fun _ => rfl) ho (fun x1 ho => ?_)
  refine j_const B eX0_mean_2 ?_
  refine j_istore_n (lv' := fun x2 => [(0, .ref (ad 99)), (1, .ref (ad (100 + 10 * a1))), (2, .int x1), (3, .int x2)]) B eX0_mean_3 [1, 2, 3, 0] (by decide) (fun _ => rfl) ho (fun x2 ho => ?_)
  refine jn1 (C := fun x3 => XJ p l e R s m args below meth c 0 0 Q A D vwCl (cellsX g ad) 4 w 47 [(1, .ref (ad (100 + 10 * a1))), (2, .int x3)] []) ho (fun x3 ho => ?_) (fun J4 hJ4 ho => ?_)
  · refine j_aload_n B eX0_mean_47 0 rfl ?_
    obtain ⟨hg, ho⟩ := gd_e ho
    refine j_callVi (As := []) B hA (met_X7_hasCox l D g ad sd w a1) (NXX_ok hX) pkX7_hasCox q345 _ (at_boat (of_decide_eq_true hg)) rfl rfl rfl hRm ⟨Nat.le_of_ble_eq_true rfl, Nat.le_of_ble_eq_true rfl⟩ rfl rfl (Nat.le_of_ble_eq_true rfl) ⟨Nat.zero_le _, Nat.zero_le _⟩ eX0_mean_48 ho (fun v5 ho => ?_)
    refine jn0 (C := XJ p l e R s m args below meth c 0 0 Q A D vwCl (cellsX g ad) 4 w 69 [(1, .ref (ad (100 + 10 * a1))), (2, .int x3)] []) ho (fun ho => ?_) (fun J6 hJ6 ho => ?_)
    · refine j_iload_n B eX0_mean_69 1 rfl ?_
      refine j_aload_n B eX0_mean_70 0 rfl ?_
      obtain ⟨hg, ho⟩ := gd_e ho
      refine j_callVi (As := []) B hA (met_X7_seats l D g ad sd w a1) (NXX_ok hX) pkX7_seats q341 _ (at_boat (of_decide_eq_true hg)) rfl rfl rfl hRm ⟨Nat.le_of_ble_eq_true rfl, Nat.le_of_ble_eq_true rfl⟩ rfl rfl (Nat.le_of_ble_eq_true rfl) ⟨Nat.zero_le _, Nat.zero_le _⟩ eX0_mean_71 ho (fun v7 ho => ?_)
      refine j_idivG B eX0_mean_74 ho (fun v8 ho => ?_)
      exact j_iret B hr hQ eX0_mean_75 ho
    · refine j_if_eq B eX0_mean_51 ho (fun _ ho => ?_) (fun _ ho => ?_)
      · exact hJ6 ho
      · refine j_aload_n B eX0_mean_54 0 rfl ?_
        refine gfBNr (j := 4) B hX (by decide) nq306 rfl eX0_mean_55 ho (fun ho => ?_)
        refine j_const B eX0_mean_58 ?_
        refine ldC B eX0_mean_60 ho (fun v9 ho => ?_)
        refine j_const B eX0_mean_61 ?_
        refine j_icmp_ne B eX0_mean_62 ho (fun _ ho => ?_) (fun _ ho => ?_)
        · exact hJ6 ho
        · refine j_const B eX0_mean_65 ?_
          refine j_goto B eX0_mean_66 ?_
          exact j_iret B hr hQ eX0_mean_75 ho
  · unfold sX_mean_L4 at ho
    refine fx2 (C := fun x10 x11 => XJ p l e R s m args below meth c 0 0 Q A D vwCl (cellsX g ad) 4 w 4 [(0, .ref (ad 99)), (1, .ref (ad (100 + 10 * a1))), (2, .int x10), (3, .int x11)] []) (fun self12 hself12 x10 x11 ho => ?_) FU _ _ ho
    refine j_iload_n B eX0_mean_4 3 rfl ?_
    refine j_aload_n B eX0_mean_5 1 rfl ?_
    obtain ⟨hg, ho⟩ := gd_e ho
    refine j_callVi (As := []) B hA (met_X7_seats l D g ad sd w a1) (NXX_ok hX) pkX7_seats q341 _ (at_boat (of_decide_eq_true hg)) rfl rfl rfl hRm ⟨Nat.le_of_ble_eq_true rfl, Nat.le_of_ble_eq_true rfl⟩ rfl rfl (Nat.le_of_ble_eq_true rfl) ⟨Nat.zero_le _, Nat.zero_le _⟩ eX0_mean_6 ho (fun v13 ho => ?_)
    refine j_icmp_ge B eX0_mean_9 ho (fun _ ho => ?_) (fun _ ho => ?_)
    · refine j_lsub (lv' := [(1, .ref (ad (100 + 10 * a1))), (2, .int x10)]) [1, 2] rfl ?_
      exact hJ4 _ ho
    · refine j_aload_n B eX0_mean_12 1 rfl ?_
      refine gfBNr (j := 4) B hX (by decide) nq306 rfl eX0_mean_13 ho (fun ho => ?_)
      refine j_iload_n B eX0_mean_16 3 rfl ?_
      refine ldC B eX0_mean_17 ho (fun v14 ho => ?_)
      refine j_const B eX0_mean_18 ?_
      refine j_icmp_ne B eX0_mean_19 ho (fun _ ho => ?_) (fun _ ho => ?_)
      · refine j_iload_n B eX0_mean_24 2 rfl ?_
        refine j_aload_n B eX0_mean_25 0 rfl ?_
        refine gfX_0 B eX0_mean_26 ?_
        refine j_aload_n B eX0_mean_29 1 rfl ?_
        refine gfBNr (j := 4) B hX (by decide) nq306 rfl eX0_mean_30 ho (fun ho => ?_)
        refine j_iload_n B eX0_mean_33 3 rfl ?_
        refine ldC B eX0_mean_34 ho (fun v15 ho => ?_)
        refine alX_0 B eX0_mean_35 ho (fun k16 ho => ?_)
        refine gfO_1 B q244 eX0_mean_36 ho (fun v17 ho => ?_)
        refine j_iadd B eX0_mean_39 ?_
        refine j_istore_n (lv' := fun x18 => [(0, .ref (ad 99)), (1, .ref (ad (100 + 10 * a1))), (2, .int x18), (3, .int x11)]) B eX0_mean_40 [1, 2, 0, 3] (by decide) (fun _ => rfl) ho (fun x18 ho => ?_)
        refine j_iinc (d := 1) (lv' := fun x19 => [(0, .ref (ad 99)), (1, .ref (ad (100 + 10 * a1))), (2, .int x18), (3, .int x19)]) B eX0_mean_41 3 rfl (by decide) [1, 2, 3, 0] (by decide) (fun _ => rfl) ho (fun x19 ho => ?_)
        refine j_goto B eX0_mean_44 ?_
        exact hself12 _ _ ho
      · refine j_const B eX0_mean_22 ?_
        exact j_iret B hr hQ eX0_mean_23 ho
def sX_ashore_L45 (w : Wd) (a1 : Nat) (a2 : Int32) : Int32 → Option (Int32) :=
  fx (fun _ => none) (fun self9 x8 =>
    if (8 : Int32) < x8 then (some (0 : Int32)) else (gd (decide (a1 < w.1 0)) (rd (decide (a1 < w.1 0) && inb x8 9) (w.2.1 (101 + 10 * a1) (Int32.toNatClampNeg x8)) fun v10 => if v10 = (-1 : Int32) then (nm (x8 + (1 : Int32)) fun x11 => self9 x11) else (gd (decide (a1 < w.1 0)) (rd (decide (a1 < w.1 0) && inb x8 9) (w.2.1 (101 + 10 * a1) (Int32.toNatClampNeg x8)) fun v12 => rd (inb v12 16 && decide (Int32.toNatClampNeg v12 < w.1 4)) (Int32.toNatClampNeg v12) fun k13 => gd (oOk w k13) (bd (sO_mayBeOut w k13 a2) fun v14 => if v14 = 0 then (some (4 : Int32)) else (nm (x8 + (1 : Int32)) fun x15 => self9 x15))))))) FU
def sX_ashore (w : Wd) (a1 : Nat) (a2 : Int32) : Option (Int32) :=
  rd (decide (a1 < w.1 0)) (w.2.1 (100 + 10 * a1) 5) fun v1 => if v1 = 0 then (bd (sX_mean w a1) fun v2 => nm v2 fun x3 => if x3 = (-1 : Int32) then (some (2 : Int32)) else (rd (decide (a1 < w.1 0)) (w.2.1 (100 + 10 * a1) 1) fun v4 => rd (decide (a1 < w.1 0)) (w.2.1 (100 + 10 * a1) 2) fun v5 => bd (sX_in (Int32.toInt64 x3) (Int32.toInt64 v4) (Int32.toInt64 v5)) fun v6 => if v6 = 0 then (some (3 : Int32)) else (nm (0 : Int32) fun x7 => sX_ashore_L45 w a1 a2 x7))) else (some (1 : Int32))
abbrev rmX0_ashore : Room := { frames := 2, cells := 0, slots := 0, locals := 43 }
theorem pkX0_ashore : PkV yX0_ashore RX0 cX0_ashore 5 (some .int) 2 := ⟨q680, qs23, q57, q681, by decide +kernel⟩
set_option maxHeartbeats 4000000 in
theorem met_X0_ashore (l : Launch) (D : va_G) (g : Nat → ClassId) (ad sd : Nat → Nat) (w : Wd) (a1 : Nat) (a2 : Int32) (sz : Nat) (r : Int32) (ho : sX_ashore w a1 a2 = some r) : Met l yX0_ashore (ws_ yX0_ashore cX0_ashore 5 (some .int)) rmX0_ashore (va_Pc [.ref (ad 99), .ref (ad (100 + 10 * a1)), .int a2] (MPre D vwCl (tysG g) (cellsX g ad w) (NXX sd (cellsX g ad w)) sz)) (QcI D vwCl (tysG g) (cellsX g ad w) r (va_A (cellsX g ad w) sz)) 0 0 (va_A (cellsX g ad w) sz) := by
  refine met_XJ (cw := cellsX g ad) (w := w) (cc := cX0_ashore) (lv := [(0, .ref (ad 99)), (1, .ref (ad (100 + 10 * a1))), (2, .int a2)]) pnX0 _ (Nat.le_of_ble_eq_true rfl) rfl ?_
  intro p e s m args below meth c R Q A B hN hr hsz hA hmm hRm hQ hAe
  have hX : NXA sd A s := by rw [hAe, ← hsz]; exact hN
  unfold sX_ashore at ho
  refine j_aload_n B eX0_ashore_0 1 rfl ?_
  refine gfBN (j := 5) B hX (by decide) nq307 rfl eX0_ashore_1 ho (fun v1 ho => ?_)
  refine j_if_eq B eX0_ashore_4 ho (fun _ ho => ?_) (fun _ ho => ?_)
  · refine j_aload_n B eX0_ashore_9 0 rfl ?_
    refine j_aload_n B eX0_ashore_10 1 rfl ?_
    refine j_callVi (As := [.ref (ad (100 + 10 * a1))]) B hA (met_X0_mean l D g ad sd w a1) (NXX_ok hX) pkX0_mean q682 0 rfl rfl rfl rfl hRm ⟨Nat.le_of_ble_eq_true rfl, Nat.le_of_ble_eq_true rfl⟩ rfl rfl (Nat.le_of_ble_eq_true rfl) ⟨Nat.zero_le _, Nat.zero_le _⟩ eX0_ashore_11 ho (fun v2 ho => ?_)
    refine j_istore_n (lv' := fun x3 => [(0, .ref (ad 99)), (1, .ref (ad (100 + 10 * a1))), (2, .int a2), (3, .int x3)]) B eX0_ashore_14 [1, 2, 3, 0] (by decide) (fun _ => rfl) ho (fun x3 ho => ?_)
    refine j_iload_n B eX0_ashore_15 3 rfl ?_
    refine j_const B eX0_ashore_16 ?_
    refine j_icmp_ne B eX0_ashore_17 ho (fun _ ho => ?_) (fun _ ho => ?_)
    · refine j_iload_n B eX0_ashore_22 3 rfl ?_
      refine j_i2l B eX0_ashore_23 ?_
      refine j_aload_n B eX0_ashore_24 1 rfl ?_
      refine gfBN (j := 1) B hX (by decide) nq300 rfl eX0_ashore_25 ho (fun v4 ho => ?_)
      refine j_i2l B eX0_ashore_28 ?_
      refine j_aload_n B eX0_ashore_29 1 rfl ?_
      refine gfBN (j := 2) B hX (by decide) nq302 rfl eX0_ashore_30 ho (fun v5 ho => ?_)
      refine j_i2l B eX0_ashore_33 ?_
      refine j_callSi (As := [.long (Int32.toInt64 x3), .long (Int32.toInt64 v4), .long (Int32.toInt64 v5)]) B hA (met_X0_in l D _ _ _ (Int32.toInt64 x3) (Int32.toInt64 v4) (Int32.toInt64 v5)) NT_ok pkX0_in q224 rfl rfl hRm ⟨Nat.le_of_ble_eq_true rfl, Nat.le_of_ble_eq_true rfl⟩ rfl rfl (Nat.le_of_ble_eq_true rfl) ⟨Nat.zero_le _, Nat.zero_le _⟩ eX0_ashore_34 ho (fun v6 ho => ?_)
      refine j_if_ne B eX0_ashore_37 ho (fun _ ho => ?_) (fun _ ho => ?_)
      · refine j_const B eX0_ashore_42 ?_
        refine j_istore (lv' := fun x7 => [(0, .ref (ad 99)), (1, .ref (ad (100 + 10 * a1))), (2, .int a2), (4, .int x7)]) B eX0_ashore_43 [1, 2, 3, 0] (by decide) (fun _ => rfl) ho (fun x7 ho => ?_)
        unfold sX_ashore_L45 at ho
        refine fx1 (C := fun x8 => XJ p l e R s m args below meth c 0 0 Q A D vwCl (cellsX g ad) 5 w 45 [(0, .ref (ad 99)), (1, .ref (ad (100 + 10 * a1))), (2, .int a2), (4, .int x8)] []) (fun self9 hself9 x8 ho => ?_) FU _ ho
        refine j_iload B eX0_ashore_45 3 rfl ?_
        refine j_const B eX0_ashore_47 ?_
        refine j_icmp_gt B eX0_ashore_49 ho (fun _ ho => ?_) (fun _ ho => ?_)
        · refine j_const B eX0_ashore_90 ?_
          exact j_iret B hr hQ eX0_ashore_91 ho
        · refine j_aload_n B eX0_ashore_52 1 rfl ?_
          refine gfBNr (j := 4) B hX (by decide) nq306 rfl eX0_ashore_53 ho (fun ho => ?_)
          refine j_iload B eX0_ashore_56 3 rfl ?_
          refine ldC B eX0_ashore_58 ho (fun v10 ho => ?_)
          refine j_const B eX0_ashore_59 ?_
          refine j_icmp_eq B eX0_ashore_60 ho (fun _ ho => ?_) (fun _ ho => ?_)
          · refine j_iinc (d := 1) (lv' := fun x11 => [(0, .ref (ad 99)), (1, .ref (ad (100 + 10 * a1))), (2, .int a2), (4, .int x11)]) B eX0_ashore_84 3 rfl (by decide) [1, 2, 3, 0] (by decide) (fun _ => rfl) ho (fun x11 ho => ?_)
            refine j_goto B eX0_ashore_87 ?_
            exact hself9 _ ho
          · refine j_aload_n B eX0_ashore_63 0 rfl ?_
            refine gfX_0 B eX0_ashore_64 ?_
            refine j_aload_n B eX0_ashore_67 1 rfl ?_
            refine gfBNr (j := 4) B hX (by decide) nq306 rfl eX0_ashore_68 ho (fun ho => ?_)
            refine j_iload B eX0_ashore_71 3 rfl ?_
            refine ldC B eX0_ashore_73 ho (fun v12 ho => ?_)
            refine alX_0 B eX0_ashore_74 ho (fun k13 ho => ?_)
            refine j_iload_n B eX0_ashore_75 2 rfl ?_
            refine cO_mayBeOut B hA hX hRm ⟨Nat.le_of_ble_eq_true rfl, Nat.le_of_ble_eq_true rfl⟩ (Nat.le_of_ble_eq_true rfl) ⟨Nat.zero_le _, Nat.zero_le _⟩ eX0_ashore_76 ho (fun v14 ho => ?_)
            refine j_if_ne B eX0_ashore_79 ho (fun _ ho => ?_) (fun _ ho => ?_)
            · refine j_iinc (d := 1) (lv' := fun x15 => [(0, .ref (ad 99)), (1, .ref (ad (100 + 10 * a1))), (2, .int a2), (4, .int x15)]) B eX0_ashore_84 3 rfl (by decide) [1, 2, 3, 0] (by decide) (fun _ => rfl) ho (fun x15 ho => ?_)
              refine j_goto B eX0_ashore_87 ?_
              exact hself9 _ ho
            · refine j_const B eX0_ashore_82 ?_
              exact j_iret B hr hQ eX0_ashore_83 ho
      · refine j_const B eX0_ashore_40 ?_
        exact j_iret B hr hQ eX0_ashore_41 ho
    · refine j_const B eX0_ashore_20 ?_
      exact j_iret B hr hQ eX0_ashore_21 ho
  · refine j_const B eX0_ashore_7 ?_
    exact j_iret B hr hQ eX0_ashore_8 ho
def sX_mayGo (w : Wd) (a1 : Int32) (a2 : Int32) : Option (Int32) :=
  rd (inb a1 8 && decide (Int32.toNatClampNeg a1 < w.1 3)) (Int32.toNatClampNeg a1) fun k1 => bd (sX_ashore w k1 a2) fun v2 => nm v2 fun x3 => if x3 ≤ 0 then (rd (inb a1 8 && decide (Int32.toNatClampNeg a1 < w.1 3)) (Int32.toNatClampNeg a1) fun k4 => bd (sX_ruling w k4 a2) fun v5 => nm v5 fun x6 => if x6 = (-1 : Int32) then (some (0 : Int32)) else (rd (inb x6 10 && decide (Int32.toNatClampNeg x6 < w.1 5)) (Int32.toNatClampNeg x6) fun k7 => rd (decide (k7 < w.1 2)) (w.2.1 (103 + 10 * k7) 0) fun v8 => if v8 = 0 then (some (0 : Int32)) else (some (5 : Int32)))) else (some x3)
abbrev rmX0_mayGo : Room := { frames := 5, cells := 0, slots := 0, locals := 114 }
theorem pkX0_mayGo : PkV yX0_mayGo RX0 cX0_mayGo 5 (some .int) 2 := ⟨q676, qs22, q57, q677, by decide +kernel⟩
set_option maxHeartbeats 4000000 in
theorem met_X0_mayGo (l : Launch) (D : va_G) (g : Nat → ClassId) (ad sd : Nat → Nat) (w : Wd) (a1 : Int32) (a2 : Int32) (sz : Nat) (r : Int32) (ho : sX_mayGo w a1 a2 = some r) : Met l yX0_mayGo (ws_ yX0_mayGo cX0_mayGo 5 (some .int)) rmX0_mayGo (va_Pc [.ref (ad 99), .int a1, .int a2] (MPre D vwCl (tysG g) (cellsX g ad w) (NXX sd (cellsX g ad w)) sz)) (QcI D vwCl (tysG g) (cellsX g ad w) r (va_A (cellsX g ad w) sz)) 0 0 (va_A (cellsX g ad w) sz) := by
  refine met_XJ (cw := cellsX g ad) (w := w) (cc := cX0_mayGo) (lv := [(0, .ref (ad 99)), (1, .int a1), (2, .int a2)]) pnX0 _ (Nat.le_of_ble_eq_true rfl) rfl ?_
  intro p e s m args below meth c R Q A B hN hr hsz hA hmm hRm hQ hAe
  have hX : NXA sd A s := by rw [hAe, ← hsz]; exact hN
  unfold sX_mayGo at ho
  refine j_aload_n B eX0_mayGo_0 0 rfl ?_
  refine j_aload_n B eX0_mayGo_1 0 rfl ?_
  refine gfX_1 B eX0_mayGo_2 ?_
  refine j_iload_n B eX0_mayGo_5 1 rfl ?_
  refine alX_1 B eX0_mayGo_6 ho (fun k1 ho => ?_)
  refine j_iload_n B eX0_mayGo_7 2 rfl ?_
  refine j_callVi (As := [.ref (ad (100 + 10 * k1)), .int a2]) B hA (met_X0_ashore l D g ad sd w k1 a2) (NXX_ok hX) pkX0_ashore q678 0 rfl rfl rfl rfl hRm ⟨Nat.le_of_ble_eq_true rfl, Nat.le_of_ble_eq_true rfl⟩ rfl rfl (Nat.le_of_ble_eq_true rfl) ⟨Nat.zero_le _, Nat.zero_le _⟩ eX0_mayGo_8 ho (fun v2 ho => ?_)
  refine j_istore_n (lv' := fun x3 => [(0, .ref (ad 99)), (1, .int a1), (2, .int a2), (3, .int x3)]) B eX0_mayGo_11 [1, 2, 3, 0] (by decide) (fun _ => rfl) ho (fun x3 ho => ?_)
  refine j_iload_n B eX0_mayGo_12 3 rfl ?_
  refine j_if_le B eX0_mayGo_13 ho (fun _ ho => ?_) (fun _ ho => ?_)
  · refine j_aload_n B eX0_mayGo_18 0 rfl ?_
    refine j_aload_n B eX0_mayGo_19 0 rfl ?_
    refine gfX_1 B eX0_mayGo_20 ?_
    refine j_iload_n B eX0_mayGo_23 1 rfl ?_
    refine alX_1 B eX0_mayGo_24 ho (fun k4 ho => ?_)
    refine j_iload_n B eX0_mayGo_25 2 rfl ?_
    refine j_callVi (As := [.ref (ad (100 + 10 * k4)), .int a2]) B hA (met_X0_ruling l D g ad sd w k4 a2) (NXX_ok hX) pkX0_ruling q643 0 rfl rfl rfl rfl hRm ⟨Nat.le_of_ble_eq_true rfl, Nat.le_of_ble_eq_true rfl⟩ rfl rfl (Nat.le_of_ble_eq_true rfl) ⟨Nat.zero_le _, Nat.zero_le _⟩ eX0_mayGo_26 ho (fun v5 ho => ?_)
    refine j_istore (lv' := fun x6 => [(0, .ref (ad 99)), (4, .int x6)]) B eX0_mayGo_29 [1, 0] (by decide) (fun _ => rfl) ho (fun x6 ho => ?_)
    refine j_iload B eX0_mayGo_31 1 rfl ?_
    refine j_const B eX0_mayGo_33 ?_
    refine j_icmp_eq B eX0_mayGo_34 ho (fun _ ho => ?_) (fun _ ho => ?_)
    · refine j_const B eX0_mayGo_54 ?_
      exact j_iret B hr hQ eX0_mayGo_55 ho
    · refine j_aload_n B eX0_mayGo_37 0 rfl ?_
      refine gfX_19 B eX0_mayGo_38 ?_
      refine j_iload B eX0_mayGo_41 1 rfl ?_
      refine alX_19 B eX0_mayGo_43 ho (fun k7 ho => ?_)
      refine gfRN (j := 0) B hX (by decide) nq529 rfl eX0_mayGo_44 ho (fun v8 ho => ?_)
      refine j_if_eq B eX0_mayGo_47 ho (fun _ ho => ?_) (fun _ ho => ?_)
      · refine j_const B eX0_mayGo_54 ?_
        exact j_iret B hr hQ eX0_mayGo_55 ho
      · refine j_const B eX0_mayGo_50 ?_
        refine j_goto B eX0_mayGo_51 ?_
        exact j_iret B hr hQ eX0_mayGo_55 ho
  · refine j_iload_n B eX0_mayGo_16 3 rfl ?_
    exact j_iret B hr hQ eX0_mayGo_17 ho
def sX_may (w : Wd) (a1 : Int32) (a2 : Int32) : Option (Int32) :=
  bd (sX_isBoat w a1) fun v1 => if v1 = 0 then (some (-1 : Int32)) else (bd (sX_in (Int32.toInt64 a2) (0 : Int64) (23 : Int64)) fun v2 => if v2 = 0 then (some (-2 : Int32)) else (bd (sX_mayGo w a1 a2) fun v3 => some v3))
abbrev rmX0_may : Room := { frames := 6, cells := 0, slots := 0, locals := 138 }
theorem pkX0_may : PkV yX0_may RX0 cX0_may 3 (some .int) 2 := ⟨q671, q672, q57, q673, by decide +kernel⟩
set_option maxHeartbeats 4000000 in
theorem met_X0_may (l : Launch) (D : va_G) (g : Nat → ClassId) (ad sd : Nat → Nat) (w : Wd) (a1 : Int32) (a2 : Int32) (sz : Nat) (r : Int32) (ho : sX_may w a1 a2 = some r) : Met l yX0_may (ws_ yX0_may cX0_may 3 (some .int)) rmX0_may (va_Pc [.ref (ad 99), .int a1, .int a2] (MPre D vwCl (tysG g) (cellsX g ad w) (NXX sd (cellsX g ad w)) sz)) (QcI D vwCl (tysG g) (cellsX g ad w) r (va_A (cellsX g ad w) sz)) 0 0 (va_A (cellsX g ad w) sz) := by
  refine met_XJ (cw := cellsX g ad) (w := w) (cc := cX0_may) (lv := [(0, .ref (ad 99)), (1, .int a1), (2, .int a2)]) pnX0 _ (Nat.le_of_ble_eq_true rfl) rfl ?_
  intro p e s m args below meth c R Q A B hN hr hsz hA hmm hRm hQ hAe
  have hX : NXA sd A s := by rw [hAe, ← hsz]; exact hN
  unfold sX_may at ho
  refine j_aload_n B eX0_may_0 0 rfl ?_
  refine j_iload_n B eX0_may_1 1 rfl ?_
  refine j_callVi (As := [.int a1]) B hA (met_X0_isBoat l D g ad sd w a1) (NXX_ok hX) pkX0_isBoat q337 0 rfl rfl rfl rfl hRm ⟨Nat.le_of_ble_eq_true rfl, Nat.le_of_ble_eq_true rfl⟩ rfl rfl (Nat.le_of_ble_eq_true rfl) ⟨Nat.zero_le _, Nat.zero_le _⟩ eX0_may_2 ho (fun v1 ho => ?_)
  refine j_if_ne B eX0_may_5 ho (fun _ ho => ?_) (fun _ ho => ?_)
  · refine j_iload_n B eX0_may_10 2 rfl ?_
    refine j_i2l B eX0_may_11 ?_
    refine j_lconst (v := 0) B eX0_may_12 rfl ?_
    refine j_ldc2 B eX0_may_13 q464 ?_
    refine j_callSi (As := [.long (Int32.toInt64 a2), .long (0 : Int64), .long (23 : Int64)]) B hA (met_X0_in l D _ _ _ (Int32.toInt64 a2) (0 : Int64) (23 : Int64)) NT_ok pkX0_in q224 rfl rfl hRm ⟨Nat.le_of_ble_eq_true rfl, Nat.le_of_ble_eq_true rfl⟩ rfl rfl (Nat.le_of_ble_eq_true rfl) ⟨Nat.zero_le _, Nat.zero_le _⟩ eX0_may_16 ho (fun v2 ho => ?_)
    refine j_if_eq B eX0_may_19 ho (fun _ ho => ?_) (fun _ ho => ?_)
    · refine j_const B eX0_may_31 ?_
      exact j_iret B hr hQ eX0_may_33 ho
    · refine j_aload_n B eX0_may_22 0 rfl ?_
      refine j_iload_n B eX0_may_23 1 rfl ?_
      refine j_iload_n B eX0_may_24 2 rfl ?_
      refine j_callVi (As := [.int a1, .int a2]) B hA (met_X0_mayGo l D g ad sd w a1 a2) (NXX_ok hX) pkX0_mayGo q674 0 rfl rfl rfl rfl hRm ⟨Nat.le_of_ble_eq_true rfl, Nat.le_of_ble_eq_true rfl⟩ rfl rfl (Nat.le_of_ble_eq_true rfl) ⟨Nat.zero_le _, Nat.zero_le _⟩ eX0_may_25 ho (fun v3 ho => ?_)
      refine j_goto B eX0_may_28 ?_
      exact j_iret B hr hQ eX0_may_33 ho
  · refine j_const B eX0_may_8 ?_
    exact j_iret B hr hQ eX0_may_9 ho
def sX_day (w : Wd) (a1 : Int32) : Option (Int32 × Wd) :=
  bd (sX_in (Int32.toInt64 a1) (Int32.toInt64 (w.2.1 90 4)) (999 : Int64)) fun v1 => if v1 = 0 then (some ((-2 : Int32), w)) else (nm (w.2.1 90 4) fun x2 => nm (stG w 90 4 a1) fun w3 => some (x2, w3))
abbrev rmX0_day : Room := { frames := 1, cells := 0, slots := 0, locals := 25 }
theorem pkX0_day : PkV yX0_day RX0 cX0_day 3 (some .int) 1 := ⟨q687, q688, q57, q689, by decide +kernel⟩
set_option maxHeartbeats 4000000 in
theorem met_X0_day (l : Launch) (D : va_G) (g : Nat → ClassId) (ad sd : Nat → Nat) (w : Wd) (a1 : Int32) (sz : Nat) (r : Int32) (w' : Wd) (ho : sX_day w a1 = some (r, w')) : Met l yX0_day (ws_ yX0_day cX0_day 3 (some .int)) rmX0_day (va_Pc [.ref (ad 99), .int a1] (MPre D vwCl (tysG g) (cellsX g ad w) (NXX sd (cellsX g ad w)) sz)) (QcI D vwCl (tysG g) (cellsX g ad w') r (va_A (cellsX g ad w) sz)) 0 0 (va_A (cellsX g ad w) sz) := by
  refine met_XJ (cw := cellsX g ad) (w := w) (cc := cX0_day) (lv := [(0, .ref (ad 99)), (1, .int a1)]) pnX0 _ (Nat.le_of_ble_eq_true rfl) rfl ?_
  intro p e s m args below meth c R Q A B hN hr hsz hA hmm hRm hQ hAe
  have hX : NXA sd A s := by rw [hAe, ← hsz]; exact hN
  unfold sX_day at ho
  refine j_iload_n B eX0_day_0 1 rfl ?_
  refine j_i2l B eX0_day_1 ?_
  refine j_aload_n B eX0_day_2 0 rfl ?_
  refine gfX_4 B eX0_day_3 ?_
  refine j_i2l B eX0_day_6 ?_
  refine j_ldc2 B eX0_day_7 q395 ?_
  refine j_callSi (As := [.long (Int32.toInt64 a1), .long (Int32.toInt64 (w.2.1 90 4)), .long (999 : Int64)]) B hA (met_X0_in l D _ _ _ (Int32.toInt64 a1) (Int32.toInt64 (w.2.1 90 4)) (999 : Int64)) NT_ok pkX0_in q224 rfl rfl hRm ⟨Nat.le_of_ble_eq_true rfl, Nat.le_of_ble_eq_true rfl⟩ rfl rfl (Nat.le_of_ble_eq_true rfl) ⟨Nat.zero_le _, Nat.zero_le _⟩ eX0_day_10 ho (fun v1 ho => ?_)
  refine j_if_ne B eX0_day_13 ho (fun _ ho => ?_) (fun _ ho => ?_)
  · refine j_aload_n B eX0_day_19 0 rfl ?_
    refine gfX_4 B eX0_day_20 ?_
    refine j_istore_n (lv' := fun x2 => [(0, .ref (ad 99)), (1, .int a1), (2, .int x2)]) B eX0_day_23 [1, 2, 0] (by decide) (fun _ => rfl) ho (fun x2 ho => ?_)
    refine j_aload_n B eX0_day_24 0 rfl ?_
    refine j_iload_n B eX0_day_25 1 rfl ?_
    refine pfX_4 B eX0_day_26 ho (fun w3 ho => ?_)
    refine j_iload_n B eX0_day_29 2 rfl ?_
    exact j_iretw B hr hQ eX0_day_30 ho
  · refine j_const B eX0_day_16 ?_
    exact j_iretw B hr hQ eX0_day_18 ho
def sX_out_L94 (a1 : Int32) (J10 : Wd → Option (Int32 × Wd)) : Int32 → Wd → Option (Int32 × Wd) :=
  fx (fun _ _ => none) (fun self14 x12 w13 =>
    if (8 : Int32) < x12 then (J10 w13) else (rd (inb a1 8 && decide (Int32.toNatClampNeg a1 < w13.1 3)) (Int32.toNatClampNeg a1) fun k15 => gd (decide (k15 < w13.1 0)) (rd (decide (k15 < w13.1 0) && inb x12 9) (w13.2.1 (101 + 10 * k15) (Int32.toNatClampNeg x12)) fun v16 => if v16 = (-1 : Int32) then (nm (x12 + (1 : Int32)) fun x17 => self14 x17 w13) else (rd (inb (w13.2.1 90 32) 30) (w13.2.1 28 (Int32.toNatClampNeg (w13.2.1 90 32))) fun v18 => rd (inb a1 8 && decide (Int32.toNatClampNeg a1 < w13.1 3)) (Int32.toNatClampNeg a1) fun k19 => gd (decide (k19 < w13.1 0)) (rd (decide (k19 < w13.1 0) && inb x12 9) (w13.2.1 (101 + 10 * k19) (Int32.toNatClampNeg x12)) fun v20 => rd (inb (w13.2.1 90 32) 30) (stG w13 28 (Int32.toNatClampNeg (w13.2.1 90 32)) (v18 ||| ((1 : Int32) <<< (v20 &&& 31)))) fun w21 => nm (x12 + (1 : Int32)) fun x22 => self14 x22 w21))))) FU
def sX_out (w : Wd) (a1 : Int32) (a2 : Int32) : Option (Int32 × Wd) :=
  bd (sX_isBoat w a1) fun v1 => if v1 = 0 then (some ((-1 : Int32), w)) else (bd (sX_in (Int32.toInt64 a2) (0 : Int64) (23 : Int64)) fun v2 => if v2 = 0 then (some ((-2 : Int32), w)) else (bd (sX_mayGo w a1 a2) fun v3 => if v3 ≤ 0 then (if (w.2.1 90 32) = (30 : Int32) then (some ((-4 : Int32), w)) else (rd (inb (w.2.1 90 32) 30) (stG w 25 (Int32.toNatClampNeg (w.2.1 90 32)) a1) fun w4 => rd (inb (w4.2.1 90 32) 30) (stG w4 26 (Int32.toNatClampNeg (w4.2.1 90 32)) (w4.2.1 90 4)) fun w5 => rd (inb (w5.2.1 90 32) 30) (stG w5 27 (Int32.toNatClampNeg (w5.2.1 90 32)) a2) fun w6 => rd (inb (w6.2.1 90 32) 30) (stG w6 28 (Int32.toNatClampNeg (w6.2.1 90 32)) (0 : Int32)) fun w7 => nm (0 : Int32) fun x8 => jn (fun w9 => nm (stG w9 90 32 ((w9.2.1 90 32) + (1 : Int32))) fun w11 => some (((w11.2.1 90 32) - (1 : Int32)), w11)) fun J10 => sX_out_L94 a1 J10 x8 w7)) else (some ((-3 : Int32), w))))
abbrev rmX0_out : Room := { frames := 6, cells := 0, slots := 0, locals := 138 }
theorem pkX0_out : PkV yX0_out RX0 cX0_out 4 (some .int) 2 := ⟨q691, q692, q57, q693, by decide +kernel⟩
set_option maxHeartbeats 4000000 in
theorem met_X0_out (l : Launch) (D : va_G) (g : Nat → ClassId) (ad sd : Nat → Nat) (w : Wd) (a1 : Int32) (a2 : Int32) (sz : Nat) (r : Int32) (w' : Wd) (ho : sX_out w a1 a2 = some (r, w')) : Met l yX0_out (ws_ yX0_out cX0_out 4 (some .int)) rmX0_out (va_Pc [.ref (ad 99), .int a1, .int a2] (MPre D vwCl (tysG g) (cellsX g ad w) (NXX sd (cellsX g ad w)) sz)) (QcI D vwCl (tysG g) (cellsX g ad w') r (va_A (cellsX g ad w) sz)) 0 0 (va_A (cellsX g ad w) sz) := by
  refine met_XJ (cw := cellsX g ad) (w := w) (cc := cX0_out) (lv := [(0, .ref (ad 99)), (1, .int a1), (2, .int a2)]) pnX0 _ (Nat.le_of_ble_eq_true rfl) rfl ?_
  intro p e s m args below meth c R Q A B hN hr hsz hA hmm hRm hQ hAe
  have hX : NXA sd A s := by rw [hAe, ← hsz]; exact hN
  unfold sX_out at ho
  refine j_aload_n B eX0_out_0 0 rfl ?_
  refine j_iload_n B eX0_out_1 1 rfl ?_
  refine j_callVi (As := [.int a1]) B hA (met_X0_isBoat l D g ad sd w a1) (NXX_ok hX) pkX0_isBoat q337 0 rfl rfl rfl rfl hRm ⟨Nat.le_of_ble_eq_true rfl, Nat.le_of_ble_eq_true rfl⟩ rfl rfl (Nat.le_of_ble_eq_true rfl) ⟨Nat.zero_le _, Nat.zero_le _⟩ eX0_out_2 ho (fun v1 ho => ?_)
  refine j_if_ne B eX0_out_5 ho (fun _ ho => ?_) (fun _ ho => ?_)
  · refine j_iload_n B eX0_out_10 2 rfl ?_
    refine j_i2l B eX0_out_11 ?_
    refine j_lconst (v := 0) B eX0_out_12 rfl ?_
    refine j_ldc2 B eX0_out_13 q464 ?_
    refine j_callSi (As := [.long (Int32.toInt64 a2), .long (0 : Int64), .long (23 : Int64)]) B hA (met_X0_in l D _ _ _ (Int32.toInt64 a2) (0 : Int64) (23 : Int64)) NT_ok pkX0_in q224 rfl rfl hRm ⟨Nat.le_of_ble_eq_true rfl, Nat.le_of_ble_eq_true rfl⟩ rfl rfl (Nat.le_of_ble_eq_true rfl) ⟨Nat.zero_le _, Nat.zero_le _⟩ eX0_out_16 ho (fun v2 ho => ?_)
    refine j_if_ne B eX0_out_19 ho (fun _ ho => ?_) (fun _ ho => ?_)
    · refine j_aload_n B eX0_out_25 0 rfl ?_
      refine j_iload_n B eX0_out_26 1 rfl ?_
      refine j_iload_n B eX0_out_27 2 rfl ?_
      refine j_callVi (As := [.int a1, .int a2]) B hA (met_X0_mayGo l D g ad sd w a1 a2) (NXX_ok hX) pkX0_mayGo q674 0 rfl rfl rfl rfl hRm ⟨Nat.le_of_ble_eq_true rfl, Nat.le_of_ble_eq_true rfl⟩ rfl rfl (Nat.le_of_ble_eq_true rfl) ⟨Nat.zero_le _, Nat.zero_le _⟩ eX0_out_28 ho (fun v3 ho => ?_)
      refine j_if_le B eX0_out_31 ho (fun _ ho => ?_) (fun _ ho => ?_)
      · refine j_aload_n B eX0_out_37 0 rfl ?_
        refine gfX_32 B eX0_out_38 ?_
        refine j_const B eX0_out_41 ?_
        refine j_icmp_ne B eX0_out_43 ho (fun _ ho => ?_) (fun _ ho => ?_)
        · refine j_aload_n B eX0_out_49 0 rfl ?_
          refine gfX_25 B eX0_out_50 ?_
          refine j_aload_n B eX0_out_53 0 rfl ?_
          refine gfX_32 B eX0_out_54 ?_
          refine j_iload_n B eX0_out_57 1 rfl ?_
          refine stX_25 B eX0_out_58 ho (fun w4 ho => ?_)
          refine j_aload_n B eX0_out_59 0 rfl ?_
          refine gfX_26 B eX0_out_60 ?_
          refine j_aload_n B eX0_out_63 0 rfl ?_
          refine gfX_32 B eX0_out_64 ?_
          refine j_aload_n B eX0_out_67 0 rfl ?_
          refine gfX_4 B eX0_out_68 ?_
          refine stX_26 B eX0_out_71 ho (fun w5 ho => ?_)
          refine j_aload_n B eX0_out_72 0 rfl ?_
          refine gfX_27 B eX0_out_73 ?_
          refine j_aload_n B eX0_out_76 0 rfl ?_
          refine gfX_32 B eX0_out_77 ?_
          refine j_iload_n B eX0_out_80 2 rfl ?_
          refine stX_27 B eX0_out_81 ho (fun w6 ho => ?_)
          refine j_aload_n B eX0_out_82 0 rfl ?_
          refine gfX_28 B eX0_out_83 ?_
          refine j_aload_n B eX0_out_86 0 rfl ?_
          refine gfX_32 B eX0_out_87 ?_
          refine j_const B eX0_out_90 ?_
          refine stX_28 B eX0_out_91 ho (fun w7 ho => ?_)
          refine j_const B eX0_out_92 ?_
          refine j_istore_n (lv' := fun x8 => [(0, .ref (ad 99)), (1, .int a1), (3, .int x8)]) B eX0_out_93 [1, 2, 0] (by decide) (fun _ => rfl) ho (fun x8 ho => ?_)
          refine jn1 (C := fun w9 => XJ p l e R s m args below meth c 0 0 Q A D vwCl (cellsX g ad) 4 w9 146 [(0, .ref (ad 99))] []) ho (fun w9 ho => ?_) (fun J10 hJ10 ho => ?_)
          · refine j_aload_n B eX0_out_146 0 rfl ?_
            refine j_dup B eX0_out_147 rfl ?_
            refine gfX_32 B eX0_out_148 ?_
            refine j_const B eX0_out_151 ?_
            refine j_iadd B eX0_out_152 ?_
            refine pfX_32 B eX0_out_153 ho (fun w11 ho => ?_)
            refine j_aload_n B eX0_out_156 0 rfl ?_
            refine gfX_32 B eX0_out_157 ?_
            refine j_const B eX0_out_160 ?_
            refine j_isub B eX0_out_161 ?_
            exact j_iretw B hr hQ eX0_out_162 ho
          · unfold sX_out_L94 at ho
            refine fx2 (C := fun x12 w13 => XJ p l e R s m args below meth c 0 0 Q A D vwCl (cellsX g ad) 4 w13 94 [(0, .ref (ad 99)), (1, .int a1), (3, .int x12)] []) (fun self14 hself14 x12 w13 ho => ?_) FU _ _ ho
            refine j_iload_n B eX0_out_94 2 rfl ?_
            refine j_const B eX0_out_95 ?_
            refine j_icmp_gt B eX0_out_97 ho (fun _ ho => ?_) (fun _ ho => ?_)
            · refine j_lsub (lv' := [(0, .ref (ad 99))]) [0] rfl ?_
              exact hJ10 _ ho
            · refine j_aload_n B eX0_out_100 0 rfl ?_
              refine gfX_1 B eX0_out_101 ?_
              refine j_iload_n B eX0_out_104 1 rfl ?_
              refine alX_1 B eX0_out_105 ho (fun k15 ho => ?_)
              refine gfBNr (j := 4) B hX (by decide) nq306 rfl eX0_out_106 ho (fun ho => ?_)
              refine j_iload_n B eX0_out_109 2 rfl ?_
              refine ldC B eX0_out_110 ho (fun v16 ho => ?_)
              refine j_const B eX0_out_111 ?_
              refine j_icmp_eq B eX0_out_112 ho (fun _ ho => ?_) (fun _ ho => ?_)
              · refine j_iinc (d := 1) (lv' := fun x17 => [(0, .ref (ad 99)), (1, .int a1), (3, .int x17)]) B eX0_out_140 2 rfl (by decide) [1, 2, 0] (by decide) (fun _ => rfl) ho (fun x17 ho => ?_)
                refine j_goto B eX0_out_143 ?_
                exact hself14 _ _ ho
              · refine j_aload_n B eX0_out_115 0 rfl ?_
                refine gfX_28 B eX0_out_116 ?_
                refine j_aload_n B eX0_out_119 0 rfl ?_
                refine gfX_32 B eX0_out_120 ?_
                refine j_dup2 B eX0_out_123 rfl rfl ?_
                refine ldX_28 B eX0_out_124 ho (fun v18 ho => ?_)
                refine j_const B eX0_out_125 ?_
                refine j_aload_n B eX0_out_126 0 rfl ?_
                refine gfX_1 B eX0_out_127 ?_
                refine j_iload_n B eX0_out_130 1 rfl ?_
                refine alX_1 B eX0_out_131 ho (fun k19 ho => ?_)
                refine gfBNr (j := 4) B hX (by decide) nq306 rfl eX0_out_132 ho (fun ho => ?_)
                refine j_iload_n B eX0_out_135 2 rfl ?_
                refine ldC B eX0_out_136 ho (fun v20 ho => ?_)
                refine j_ishl B eX0_out_137 ?_
                refine j_ior B eX0_out_138 ?_
                refine stX_28 B eX0_out_139 ho (fun w21 ho => ?_)
                refine j_iinc (d := 1) (lv' := fun x22 => [(0, .ref (ad 99)), (1, .int a1), (3, .int x22)]) B eX0_out_140 2 rfl (by decide) [1, 2, 0] (by decide) (fun _ => rfl) ho (fun x22 ho => ?_)
                refine j_goto B eX0_out_143 ?_
                exact hself14 _ _ ho
        · refine j_const B eX0_out_46 ?_
          exact j_iretw B hr hQ eX0_out_48 ho
      · refine j_const B eX0_out_34 ?_
        exact j_iretw B hr hQ eX0_out_36 ho
    · refine j_const B eX0_out_22 ?_
      exact j_iretw B hr hQ eX0_out_24 ho
  · refine j_const B eX0_out_8 ?_
    exact j_iretw B hr hQ eX0_out_9 ho
def sX_look (w : Wd) (a1 : Int32) (a2 : Int32) : Option (Int32 × Wd) :=
  bd (sX_isBoat w a1) fun v1 => if v1 = 0 then (some ((-1 : Int32), w)) else (bd (sX_in (Int32.toInt64 a2) (0 : Int64) (1 : Int64)) fun v2 => if v2 = 0 then (some ((-2 : Int32), w)) else (if (w.2.1 90 33) = (60 : Int32) then (some ((-4 : Int32), w)) else (rd (inb (w.2.1 90 33) 60) (stG w 29 (Int32.toNatClampNeg (w.2.1 90 33)) a1) fun w3 => rd (inb (w3.2.1 90 33) 60) (stG w3 30 (Int32.toNatClampNeg (w3.2.1 90 33)) (w3.2.1 90 32)) fun w4 => jn (fun z5 => rd (inb (w4.2.1 90 33) 60) (stG w4 31 (Int32.toNatClampNeg (w4.2.1 90 33)) (vp_nar .boolean z5)) fun w7 => nm (stG w7 90 33 ((w7.2.1 90 33) + (1 : Int32))) fun w8 => rd (inb a1 8 && decide (Int32.toNatClampNeg a1 < w8.1 3)) (Int32.toNatClampNeg a1) fun k9 => jn (fun z10 => rd (decide (k9 < w8.1 0) && isB z10) (stG w8 (100 + 10 * k9) 5 z10) fun w12 => some (((w12.2.1 90 33) - (1 : Int32)), w12)) fun J11 => if a2 = 0 then (J11 (1 : Int32)) else (J11 (0 : Int32))) fun J6 => if a2 = (1 : Int32) then (J6 (1 : Int32)) else (J6 (0 : Int32)))))
abbrev rmX0_look : Room := { frames := 2, cells := 0, slots := 0, locals := 46 }
theorem pkX0_look : PkV yX0_look RX0 cX0_look 3 (some .int) 2 := ⟨q695, q696, q57, q697, by decide +kernel⟩
set_option maxHeartbeats 4000000 in
theorem met_X0_look (l : Launch) (D : va_G) (g : Nat → ClassId) (ad sd : Nat → Nat) (w : Wd) (a1 : Int32) (a2 : Int32) (sz : Nat) (r : Int32) (w' : Wd) (ho : sX_look w a1 a2 = some (r, w')) : Met l yX0_look (ws_ yX0_look cX0_look 3 (some .int)) rmX0_look (va_Pc [.ref (ad 99), .int a1, .int a2] (MPre D vwCl (tysG g) (cellsX g ad w) (NXX sd (cellsX g ad w)) sz)) (QcI D vwCl (tysG g) (cellsX g ad w') r (va_A (cellsX g ad w) sz)) 0 0 (va_A (cellsX g ad w) sz) := by
  refine met_XJ (cw := cellsX g ad) (w := w) (cc := cX0_look) (lv := [(0, .ref (ad 99)), (1, .int a1), (2, .int a2)]) pnX0 _ (Nat.le_of_ble_eq_true rfl) rfl ?_
  intro p e s m args below meth c R Q A B hN hr hsz hA hmm hRm hQ hAe
  have hX : NXA sd A s := by rw [hAe, ← hsz]; exact hN
  unfold sX_look at ho
  refine j_aload_n B eX0_look_0 0 rfl ?_
  refine j_iload_n B eX0_look_1 1 rfl ?_
  refine j_callVi (As := [.int a1]) B hA (met_X0_isBoat l D g ad sd w a1) (NXX_ok hX) pkX0_isBoat q337 0 rfl rfl rfl rfl hRm ⟨Nat.le_of_ble_eq_true rfl, Nat.le_of_ble_eq_true rfl⟩ rfl rfl (Nat.le_of_ble_eq_true rfl) ⟨Nat.zero_le _, Nat.zero_le _⟩ eX0_look_2 ho (fun v1 ho => ?_)
  refine j_if_ne B eX0_look_5 ho (fun _ ho => ?_) (fun _ ho => ?_)
  · refine j_iload_n B eX0_look_10 2 rfl ?_
    refine j_i2l B eX0_look_11 ?_
    refine j_lconst (v := 0) B eX0_look_12 rfl ?_
    refine j_lconst (v := 1) B eX0_look_13 rfl ?_
    refine j_callSi (As := [.long (Int32.toInt64 a2), .long (0 : Int64), .long (1 : Int64)]) B hA (met_X0_in l D _ _ _ (Int32.toInt64 a2) (0 : Int64) (1 : Int64)) NT_ok pkX0_in q224 rfl rfl hRm ⟨Nat.le_of_ble_eq_true rfl, Nat.le_of_ble_eq_true rfl⟩ rfl rfl (Nat.le_of_ble_eq_true rfl) ⟨Nat.zero_le _, Nat.zero_le _⟩ eX0_look_14 ho (fun v2 ho => ?_)
    refine j_if_ne B eX0_look_17 ho (fun _ ho => ?_) (fun _ ho => ?_)
    · refine j_aload_n B eX0_look_23 0 rfl ?_
      refine gfX_33 B eX0_look_24 ?_
      refine j_const B eX0_look_27 ?_
      refine j_icmp_ne B eX0_look_29 ho (fun _ ho => ?_) (fun _ ho => ?_)
      · refine j_aload_n B eX0_look_35 0 rfl ?_
        refine gfX_29 B eX0_look_36 ?_
        refine j_aload_n B eX0_look_39 0 rfl ?_
        refine gfX_33 B eX0_look_40 ?_
        refine j_iload_n B eX0_look_43 1 rfl ?_
        refine stX_29 B eX0_look_44 ho (fun w3 ho => ?_)
        refine j_aload_n B eX0_look_45 0 rfl ?_
        refine gfX_30 B eX0_look_46 ?_
        refine j_aload_n B eX0_look_49 0 rfl ?_
        refine gfX_33 B eX0_look_50 ?_
        refine j_aload_n B eX0_look_53 0 rfl ?_
        refine gfX_32 B eX0_look_54 ?_
        refine stX_30 B eX0_look_57 ho (fun w4 ho => ?_)
        refine j_aload_n B eX0_look_58 0 rfl ?_
        refine gfX_31 B eX0_look_59 ?_
        refine j_aload_n B eX0_look_62 0 rfl ?_
        refine gfX_33 B eX0_look_63 ?_
        refine j_iload_n B eX0_look_66 2 rfl ?_
        refine j_const B eX0_look_67 ?_
        refine jn1 (C := fun z5 => XJ p l e R s m args below meth c 0 0 Q A D vwCl (cellsX g ad) 3 w4 76 [(0, .ref (ad 99)), (1, .int a1), (2, .int a2)] [.int z5, .int (w4.2.1 90 33), .ref (ad 31)]) ho (fun z5 ho => ?_) (fun J6 hJ6 ho => ?_)
        · refine stX_31 B eX0_look_76 ho (fun w7 ho => ?_)
          refine j_aload_n B eX0_look_77 0 rfl ?_
          refine j_dup B eX0_look_78 rfl ?_
          refine gfX_33 B eX0_look_79 ?_
          refine j_const B eX0_look_82 ?_
          refine j_iadd B eX0_look_83 ?_
          refine pfX_33 B eX0_look_84 ho (fun w8 ho => ?_)
          refine j_aload_n B eX0_look_87 0 rfl ?_
          refine gfX_1 B eX0_look_88 ?_
          refine j_iload_n B eX0_look_91 1 rfl ?_
          refine alX_1 B eX0_look_92 ho (fun k9 ho => ?_)
          refine j_iload_n B eX0_look_93 2 rfl ?_
          refine jn1 (C := fun z10 => XJ p l e R s m args below meth c 0 0 Q A D vwCl (cellsX g ad) 3 w8 102 [(0, .ref (ad 99))] [.int z10, .ref (ad (100 + 10 * k9))]) ho (fun z10 ho => ?_) (fun J11 hJ11 ho => ?_)
          · refine pfBNZ (j := 5) B hX (by decide) rfl rfl rfl nq307 eX0_look_102 ho (fun w12 ho => ?_)
            refine j_aload_n B eX0_look_105 0 rfl ?_
            refine gfX_33 B eX0_look_106 ?_
            refine j_const B eX0_look_109 ?_
            refine j_isub B eX0_look_110 ?_
            exact j_iretw B hr hQ eX0_look_111 ho
          · refine j_if_ne B eX0_look_94 ho (fun _ ho => ?_) (fun _ ho => ?_)
            · refine j_const B eX0_look_101 ?_
              refine j_lsub (lv' := [(0, .ref (ad 99))]) [0] rfl ?_
              exact hJ11 _ ho
            · refine j_const B eX0_look_97 ?_
              refine j_goto B eX0_look_98 ?_
              refine j_lsub (lv' := [(0, .ref (ad 99))]) [0] rfl ?_
              exact hJ11 _ ho
        · refine j_icmp_ne B eX0_look_68 ho (fun _ ho => ?_) (fun _ ho => ?_)
          · refine j_const B eX0_look_75 ?_
            exact hJ6 _ ho
          · refine j_const B eX0_look_71 ?_
            refine j_goto B eX0_look_72 ?_
            exact hJ6 _ ho
      · refine j_const B eX0_look_32 ?_
        exact j_iretw B hr hQ eX0_look_34 ho
    · refine j_const B eX0_look_20 ?_
      exact j_iretw B hr hQ eX0_look_22 ho
  · refine j_const B eX0_look_8 ?_
    exact j_iretw B hr hQ eX0_look_9 ho
