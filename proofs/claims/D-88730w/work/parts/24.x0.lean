set_option maxRecDepth 100000
theorem eX0_isOar_0 : D1 cX0_isOar 0 (.iload_n 1) 1 := ⟨by decide +kernel, rfl⟩
theorem eX0_isOar_1 : D1 cX0_isOar 1 (.i2l) 2 := ⟨by decide +kernel, rfl⟩
theorem eX0_isOar_2 : D1 cX0_isOar 2 (.lconst 0) 3 := ⟨by decide +kernel, rfl⟩
theorem eX0_isOar_3 : D1 cX0_isOar 3 (.aload_n 0) 4 := ⟨by decide +kernel, rfl⟩
theorem eX0_isOar_4 : D3 cX0_isOar 4 (.getfield 100) 7 := ⟨by decide +kernel, rfl⟩
theorem eX0_isOar_7 : DC cX0_isOar 7 (1) 8 := Or.inl ⟨1, ⟨by decide +kernel, rfl⟩, by decide⟩
theorem eX0_isOar_8 : D1 cX0_isOar 8 (.isub) 9 := ⟨by decide +kernel, rfl⟩
theorem eX0_isOar_9 : D1 cX0_isOar 9 (.i2l) 10 := ⟨by decide +kernel, rfl⟩
theorem eX0_isOar_10 : D3 cX0_isOar 10 (.invokestatic 103) 13 := ⟨by decide +kernel, rfl⟩
theorem eX0_isOar_13 : D1 cX0_isOar 13 (.ireturn) 14 := ⟨by decide +kernel, rfl⟩
theorem eX0_ill_0 : D1 cX0_ill 0 (.aload_n 0) 1 := ⟨by decide +kernel, rfl⟩
theorem eX0_ill_1 : D1 cX0_ill 1 (.iload_n 1) 2 := ⟨by decide +kernel, rfl⟩
theorem eX0_ill_2 : D3 cX0_ill 2 (.invokevirtual 153) 5 := ⟨by decide +kernel, rfl⟩
theorem eX0_ill_5 : DJ cX0_ill 5 (.ifCond .ne) 10 8 := ⟨5, by decide +kernel, by decide, rfl⟩
theorem eX0_ill_8 : DC cX0_ill 8 (-1) 9 := Or.inl ⟨-1, ⟨by decide +kernel, rfl⟩, by decide⟩
theorem eX0_ill_9 : D1 cX0_ill 9 (.ireturn) 10 := ⟨by decide +kernel, rfl⟩
theorem eX0_ill_10 : D1 cX0_ill 10 (.iload_n 2) 11 := ⟨by decide +kernel, rfl⟩
theorem eX0_ill_11 : D1 cX0_ill 11 (.i2l) 12 := ⟨by decide +kernel, rfl⟩
theorem eX0_ill_12 : D1 cX0_ill 12 (.lconst 0) 13 := ⟨by decide +kernel, rfl⟩
theorem eX0_ill_13 : D1 cX0_ill 13 (.lconst 1) 14 := ⟨by decide +kernel, rfl⟩
theorem eX0_ill_14 : D3 cX0_ill 14 (.invokestatic 103) 17 := ⟨by decide +kernel, rfl⟩
theorem eX0_ill_17 : DJ cX0_ill 17 (.ifCond .ne) 23 20 := ⟨6, by decide +kernel, by decide, rfl⟩
theorem eX0_ill_20 : DC cX0_ill 20 (-2) 22 := Or.inr (Or.inl ⟨-2, ⟨by decide +kernel, rfl⟩, by decide⟩)
theorem eX0_ill_22 : D1 cX0_ill 22 (.ireturn) 23 := ⟨by decide +kernel, rfl⟩
theorem eX0_ill_23 : D1 cX0_ill 23 (.aload_n 0) 24 := ⟨by decide +kernel, rfl⟩
theorem eX0_ill_24 : D3 cX0_ill 24 (.getfield 13) 27 := ⟨by decide +kernel, rfl⟩
theorem eX0_ill_27 : D1 cX0_ill 27 (.iload_n 1) 28 := ⟨by decide +kernel, rfl⟩
theorem eX0_ill_28 : D1 cX0_ill 28 (.aaload) 29 := ⟨by decide +kernel, rfl⟩
theorem eX0_ill_29 : D3 cX0_ill 29 (.getfield 156) 32 := ⟨by decide +kernel, rfl⟩
theorem eX0_ill_32 : DJ cX0_ill 32 (.ifCond .eq) 39 35 := ⟨7, by decide +kernel, by decide, rfl⟩
theorem eX0_ill_35 : DC cX0_ill 35 (1) 36 := Or.inl ⟨1, ⟨by decide +kernel, rfl⟩, by decide⟩
theorem eX0_ill_36 : DJ cX0_ill 36 .goto 40 39 := ⟨4, by decide +kernel, by decide, rfl⟩
theorem eX0_ill_39 : DC cX0_ill 39 (0) 40 := Or.inl ⟨0, ⟨by decide +kernel, rfl⟩, by decide⟩
theorem eX0_ill_40 : D1 cX0_ill 40 (.istore_n 3) 41 := ⟨by decide +kernel, rfl⟩
theorem eX0_ill_41 : D1 cX0_ill 41 (.aload_n 0) 42 := ⟨by decide +kernel, rfl⟩
theorem eX0_ill_42 : D3 cX0_ill 42 (.getfield 13) 45 := ⟨by decide +kernel, rfl⟩
theorem eX0_ill_45 : D1 cX0_ill 45 (.iload_n 1) 46 := ⟨by decide +kernel, rfl⟩
theorem eX0_ill_46 : D1 cX0_ill 46 (.aaload) 47 := ⟨by decide +kernel, rfl⟩
theorem eX0_ill_47 : D1 cX0_ill 47 (.iload_n 2) 48 := ⟨by decide +kernel, rfl⟩
theorem eX0_ill_48 : DC cX0_ill 48 (1) 49 := Or.inl ⟨1, ⟨by decide +kernel, rfl⟩, by decide⟩
theorem eX0_ill_49 : DJ cX0_ill 49 (.if_icmp .ne) 56 52 := ⟨7, by decide +kernel, by decide, rfl⟩
theorem eX0_ill_52 : DC cX0_ill 52 (1) 53 := Or.inl ⟨1, ⟨by decide +kernel, rfl⟩, by decide⟩
theorem eX0_ill_53 : DJ cX0_ill 53 .goto 57 56 := ⟨4, by decide +kernel, by decide, rfl⟩
theorem eX0_ill_56 : DC cX0_ill 56 (0) 57 := Or.inl ⟨0, ⟨by decide +kernel, rfl⟩, by decide⟩
theorem eX0_ill_57 : D3 cX0_ill 57 (.putfield 156) 60 := ⟨by decide +kernel, rfl⟩
theorem eX0_ill_60 : D1 cX0_ill 60 (.iload_n 3) 61 := ⟨by decide +kernel, rfl⟩
theorem eX0_ill_61 : D1 cX0_ill 61 (.ireturn) 62 := ⟨by decide +kernel, rfl⟩
theorem eX0_isBoat_0 : D1 cX0_isBoat 0 (.iload_n 1) 1 := ⟨by decide +kernel, rfl⟩
theorem eX0_isBoat_1 : D1 cX0_isBoat 1 (.i2l) 2 := ⟨by decide +kernel, rfl⟩
theorem eX0_isBoat_2 : D1 cX0_isBoat 2 (.lconst 0) 3 := ⟨by decide +kernel, rfl⟩
theorem eX0_isBoat_3 : D1 cX0_isBoat 3 (.aload_n 0) 4 := ⟨by decide +kernel, rfl⟩
theorem eX0_isBoat_4 : D3 cX0_isBoat 4 (.getfield 107) 7 := ⟨by decide +kernel, rfl⟩
theorem eX0_isBoat_7 : DC cX0_isBoat 7 (1) 8 := Or.inl ⟨1, ⟨by decide +kernel, rfl⟩, by decide⟩
theorem eX0_isBoat_8 : D1 cX0_isBoat 8 (.isub) 9 := ⟨by decide +kernel, rfl⟩
theorem eX0_isBoat_9 : D1 cX0_isBoat 9 (.i2l) 10 := ⟨by decide +kernel, rfl⟩
theorem eX0_isBoat_10 : D3 cX0_isBoat 10 (.invokestatic 103) 13 := ⟨by decide +kernel, rfl⟩
theorem eX0_isBoat_13 : D1 cX0_isBoat 13 (.ireturn) 14 := ⟨by decide +kernel, rfl⟩
theorem eX0_isSeat_0 : D1 cX0_isSeat 0 (.aload_n 0) 1 := ⟨by decide +kernel, rfl⟩
theorem eX0_isSeat_1 : D1 cX0_isSeat 1 (.iload_n 1) 2 := ⟨by decide +kernel, rfl⟩
theorem eX0_isSeat_2 : D3 cX0_isSeat 2 (.invokevirtual 110) 5 := ⟨by decide +kernel, rfl⟩
theorem eX0_isSeat_5 : DJ cX0_isSeat 5 (.ifCond .eq) 51 8 := ⟨46, by decide +kernel, by decide, rfl⟩
theorem eX0_isSeat_8 : D1 cX0_isSeat 8 (.iload_n 2) 9 := ⟨by decide +kernel, rfl⟩
theorem eX0_isSeat_9 : D1 cX0_isSeat 9 (.i2l) 10 := ⟨by decide +kernel, rfl⟩
theorem eX0_isSeat_10 : D1 cX0_isSeat 10 (.lconst 0) 11 := ⟨by decide +kernel, rfl⟩
theorem eX0_isSeat_11 : D1 cX0_isSeat 11 (.aload_n 0) 12 := ⟨by decide +kernel, rfl⟩
theorem eX0_isSeat_12 : D3 cX0_isSeat 12 (.getfield 19) 15 := ⟨by decide +kernel, rfl⟩
theorem eX0_isSeat_15 : D1 cX0_isSeat 15 (.iload_n 1) 16 := ⟨by decide +kernel, rfl⟩
theorem eX0_isSeat_16 : D1 cX0_isSeat 16 (.aaload) 17 := ⟨by decide +kernel, rfl⟩
theorem eX0_isSeat_17 : D3 cX0_isSeat 17 (.invokevirtual 114) 20 := ⟨by decide +kernel, rfl⟩
theorem eX0_isSeat_20 : DC cX0_isSeat 20 (1) 21 := Or.inl ⟨1, ⟨by decide +kernel, rfl⟩, by decide⟩
theorem eX0_isSeat_21 : D1 cX0_isSeat 21 (.isub) 22 := ⟨by decide +kernel, rfl⟩
theorem eX0_isSeat_22 : D1 cX0_isSeat 22 (.i2l) 23 := ⟨by decide +kernel, rfl⟩
theorem eX0_isSeat_23 : D3 cX0_isSeat 23 (.invokestatic 103) 26 := ⟨by decide +kernel, rfl⟩
theorem eX0_isSeat_26 : DJ cX0_isSeat 26 (.ifCond .ne) 47 29 := ⟨21, by decide +kernel, by decide, rfl⟩
theorem eX0_isSeat_29 : D1 cX0_isSeat 29 (.iload_n 2) 30 := ⟨by decide +kernel, rfl⟩
theorem eX0_isSeat_30 : DC cX0_isSeat 30 (8) 32 := Or.inr (Or.inl ⟨8, ⟨by decide +kernel, rfl⟩, by decide⟩)
theorem eX0_isSeat_32 : DJ cX0_isSeat 32 (.if_icmp .ne) 51 35 := ⟨19, by decide +kernel, by decide, rfl⟩
theorem eX0_isSeat_35 : D1 cX0_isSeat 35 (.aload_n 0) 36 := ⟨by decide +kernel, rfl⟩
theorem eX0_isSeat_36 : D3 cX0_isSeat 36 (.getfield 19) 39 := ⟨by decide +kernel, rfl⟩
theorem eX0_isSeat_39 : D1 cX0_isSeat 39 (.iload_n 1) 40 := ⟨by decide +kernel, rfl⟩
theorem eX0_isSeat_40 : D1 cX0_isSeat 40 (.aaload) 41 := ⟨by decide +kernel, rfl⟩
theorem eX0_isSeat_41 : D3 cX0_isSeat 41 (.invokevirtual 118) 44 := ⟨by decide +kernel, rfl⟩
theorem eX0_isSeat_44 : DJ cX0_isSeat 44 (.ifCond .eq) 51 47 := ⟨7, by decide +kernel, by decide, rfl⟩
theorem eX0_isSeat_47 : DC cX0_isSeat 47 (1) 48 := Or.inl ⟨1, ⟨by decide +kernel, rfl⟩, by decide⟩
theorem eX0_isSeat_48 : DJ cX0_isSeat 48 .goto 52 51 := ⟨4, by decide +kernel, by decide, rfl⟩
theorem eX0_isSeat_51 : DC cX0_isSeat 51 (0) 52 := Or.inl ⟨0, ⟨by decide +kernel, rfl⟩, by decide⟩
theorem eX0_isSeat_52 : D1 cX0_isSeat 52 (.ireturn) 53 := ⟨by decide +kernel, rfl⟩
theorem eX0_leaves_0 : DC cX0_leaves 0 (0) 1 := Or.inl ⟨0, ⟨by decide +kernel, rfl⟩, by decide⟩
theorem eX0_leaves_1 : D1 cX0_leaves 1 (.istore_n 2) 2 := ⟨by decide +kernel, rfl⟩
theorem eX0_leaves_2 : D1 cX0_leaves 2 (.iload_n 2) 3 := ⟨by decide +kernel, rfl⟩
theorem eX0_leaves_3 : D1 cX0_leaves 3 (.aload_n 0) 4 := ⟨by decide +kernel, rfl⟩
theorem eX0_leaves_4 : D3 cX0_leaves 4 (.getfield 107) 7 := ⟨by decide +kernel, rfl⟩
theorem eX0_leaves_7 : DJ cX0_leaves 7 (.if_icmp .ge) 51 10 := ⟨44, by decide +kernel, by decide, rfl⟩
theorem eX0_leaves_10 : D1 cX0_leaves 10 (.aload_n 0) 11 := ⟨by decide +kernel, rfl⟩
theorem eX0_leaves_11 : D3 cX0_leaves 11 (.getfield 19) 14 := ⟨by decide +kernel, rfl⟩
theorem eX0_leaves_14 : D1 cX0_leaves 14 (.iload_n 2) 15 := ⟨by decide +kernel, rfl⟩
theorem eX0_leaves_15 : D1 cX0_leaves 15 (.aaload) 16 := ⟨by decide +kernel, rfl⟩
theorem eX0_leaves_16 : D1 cX0_leaves 16 (.iload_n 1) 17 := ⟨by decide +kernel, rfl⟩
theorem eX0_leaves_17 : D3 cX0_leaves 17 (.invokevirtual 174) 20 := ⟨by decide +kernel, rfl⟩
theorem eX0_leaves_20 : DC cX0_leaves 20 (-1) 21 := Or.inl ⟨-1, ⟨by decide +kernel, rfl⟩, by decide⟩
theorem eX0_leaves_21 : DJ cX0_leaves 21 (.if_icmp .eq) 45 24 := ⟨24, by decide +kernel, by decide, rfl⟩
theorem eX0_leaves_24 : D1 cX0_leaves 24 (.aload_n 0) 25 := ⟨by decide +kernel, rfl⟩
theorem eX0_leaves_25 : D3 cX0_leaves 25 (.getfield 19) 28 := ⟨by decide +kernel, rfl⟩
theorem eX0_leaves_28 : D1 cX0_leaves 28 (.iload_n 2) 29 := ⟨by decide +kernel, rfl⟩
theorem eX0_leaves_29 : D1 cX0_leaves 29 (.aaload) 30 := ⟨by decide +kernel, rfl⟩
theorem eX0_leaves_30 : D3 cX0_leaves 30 (.getfield 167) 33 := ⟨by decide +kernel, rfl⟩
theorem eX0_leaves_33 : D1 cX0_leaves 33 (.aload_n 0) 34 := ⟨by decide +kernel, rfl⟩
theorem eX0_leaves_34 : D3 cX0_leaves 34 (.getfield 19) 37 := ⟨by decide +kernel, rfl⟩
theorem eX0_leaves_37 : D1 cX0_leaves 37 (.iload_n 2) 38 := ⟨by decide +kernel, rfl⟩
theorem eX0_leaves_38 : D1 cX0_leaves 38 (.aaload) 39 := ⟨by decide +kernel, rfl⟩
theorem eX0_leaves_39 : D1 cX0_leaves 39 (.iload_n 1) 40 := ⟨by decide +kernel, rfl⟩
theorem eX0_leaves_40 : D3 cX0_leaves 40 (.invokevirtual 174) 43 := ⟨by decide +kernel, rfl⟩
theorem eX0_leaves_43 : DC cX0_leaves 43 (-1) 44 := Or.inl ⟨-1, ⟨by decide +kernel, rfl⟩, by decide⟩
theorem eX0_leaves_44 : D1 cX0_leaves 44 (.iastore) 45 := ⟨by decide +kernel, rfl⟩
theorem eX0_leaves_45 : D3 cX0_leaves 45 (.iinc 2 1) 48 := ⟨by decide +kernel, rfl⟩
theorem eX0_leaves_48 : DJ cX0_leaves 48 .goto 2 51 := ⟨-46, by decide +kernel, by decide, rfl⟩
theorem eX0_leaves_51 : D1 cX0_leaves 51 (.return_) 52 := ⟨by decide +kernel, rfl⟩
theorem eX0_sit_0 : D1 cX0_sit 0 (.aload_n 0) 1 := ⟨by decide +kernel, rfl⟩
theorem eX0_sit_1 : D1 cX0_sit 1 (.iload_n 1) 2 := ⟨by decide +kernel, rfl⟩
theorem eX0_sit_2 : D1 cX0_sit 2 (.iload_n 2) 3 := ⟨by decide +kernel, rfl⟩
theorem eX0_sit_3 : D3 cX0_sit 3 (.invokevirtual 160) 6 := ⟨by decide +kernel, rfl⟩
theorem eX0_sit_6 : DJ cX0_sit 6 (.ifCond .eq) 22 9 := ⟨16, by decide +kernel, by decide, rfl⟩
theorem eX0_sit_9 : D1 cX0_sit 9 (.iload_n 3) 10 := ⟨by decide +kernel, rfl⟩
theorem eX0_sit_10 : DC cX0_sit 10 (-1) 11 := Or.inl ⟨-1, ⟨by decide +kernel, rfl⟩, by decide⟩
theorem eX0_sit_11 : DJ cX0_sit 11 (.if_icmp .eq) 25 14 := ⟨14, by decide +kernel, by decide, rfl⟩
theorem eX0_sit_14 : D1 cX0_sit 14 (.aload_n 0) 15 := ⟨by decide +kernel, rfl⟩
theorem eX0_sit_15 : D1 cX0_sit 15 (.iload_n 3) 16 := ⟨by decide +kernel, rfl⟩
theorem eX0_sit_16 : D3 cX0_sit 16 (.invokevirtual 153) 19 := ⟨by decide +kernel, rfl⟩
theorem eX0_sit_19 : DJ cX0_sit 19 (.ifCond .ne) 25 22 := ⟨6, by decide +kernel, by decide, rfl⟩
theorem eX0_sit_22 : DC cX0_sit 22 (-5) 24 := Or.inr (Or.inl ⟨-5, ⟨by decide +kernel, rfl⟩, by decide⟩)
theorem eX0_sit_24 : D1 cX0_sit 24 (.ireturn) 25 := ⟨by decide +kernel, rfl⟩
theorem eX0_sit_25 : D1 cX0_sit 25 (.iload_n 3) 26 := ⟨by decide +kernel, rfl⟩
theorem eX0_sit_26 : DC cX0_sit 26 (-1) 27 := Or.inl ⟨-1, ⟨by decide +kernel, rfl⟩, by decide⟩
theorem eX0_sit_27 : DJ cX0_sit 27 (.if_icmp .eq) 63 30 := ⟨36, by decide +kernel, by decide, rfl⟩
theorem eX0_sit_30 : D1 cX0_sit 30 (.aload_n 0) 31 := ⟨by decide +kernel, rfl⟩
theorem eX0_sit_31 : D3 cX0_sit 31 (.getfield 13) 34 := ⟨by decide +kernel, rfl⟩
theorem eX0_sit_34 : D1 cX0_sit 34 (.iload_n 3) 35 := ⟨by decide +kernel, rfl⟩
theorem eX0_sit_35 : D1 cX0_sit 35 (.aaload) 36 := ⟨by decide +kernel, rfl⟩
theorem eX0_sit_36 : D3 cX0_sit 36 (.getfield 156) 39 := ⟨by decide +kernel, rfl⟩
theorem eX0_sit_39 : DJ cX0_sit 39 (.ifCond .ne) 60 42 := ⟨21, by decide +kernel, by decide, rfl⟩
theorem eX0_sit_42 : D1 cX0_sit 42 (.iload_n 2) 43 := ⟨by decide +kernel, rfl⟩
theorem eX0_sit_43 : DC cX0_sit 43 (8) 45 := Or.inr (Or.inl ⟨8, ⟨by decide +kernel, rfl⟩, by decide⟩)
theorem eX0_sit_45 : DJ cX0_sit 45 (.if_icmp .ne) 63 48 := ⟨18, by decide +kernel, by decide, rfl⟩
theorem eX0_sit_48 : D1 cX0_sit 48 (.aload_n 0) 49 := ⟨by decide +kernel, rfl⟩
theorem eX0_sit_49 : D3 cX0_sit 49 (.getfield 13) 52 := ⟨by decide +kernel, rfl⟩
theorem eX0_sit_52 : D1 cX0_sit 52 (.iload_n 3) 53 := ⟨by decide +kernel, rfl⟩
theorem eX0_sit_53 : D1 cX0_sit 53 (.aaload) 54 := ⟨by decide +kernel, rfl⟩
theorem eX0_sit_54 : D3 cX0_sit 54 (.invokevirtual 164) 57 := ⟨by decide +kernel, rfl⟩
theorem eX0_sit_57 : DJ cX0_sit 57 (.ifCond .ne) 63 60 := ⟨6, by decide +kernel, by decide, rfl⟩
theorem eX0_sit_60 : DC cX0_sit 60 (-3) 62 := Or.inr (Or.inl ⟨-3, ⟨by decide +kernel, rfl⟩, by decide⟩)
theorem eX0_sit_62 : D1 cX0_sit 62 (.ireturn) 63 := ⟨by decide +kernel, rfl⟩
theorem eX0_sit_63 : D1 cX0_sit 63 (.aload_n 0) 64 := ⟨by decide +kernel, rfl⟩
theorem eX0_sit_64 : D3 cX0_sit 64 (.getfield 19) 67 := ⟨by decide +kernel, rfl⟩
theorem eX0_sit_67 : D1 cX0_sit 67 (.iload_n 1) 68 := ⟨by decide +kernel, rfl⟩
theorem eX0_sit_68 : D1 cX0_sit 68 (.aaload) 69 := ⟨by decide +kernel, rfl⟩
theorem eX0_sit_69 : D3 cX0_sit 69 (.getfield 167) 72 := ⟨by decide +kernel, rfl⟩
theorem eX0_sit_72 : D1 cX0_sit 72 (.iload_n 2) 73 := ⟨by decide +kernel, rfl⟩
theorem eX0_sit_73 : D1 cX0_sit 73 (.iaload) 74 := ⟨by decide +kernel, rfl⟩
theorem eX0_sit_74 : D2 cX0_sit 74 (.istore 4) 76 := ⟨by decide +kernel, rfl⟩
theorem eX0_sit_76 : D1 cX0_sit 76 (.iload_n 3) 77 := ⟨by decide +kernel, rfl⟩
theorem eX0_sit_77 : DC cX0_sit 77 (-1) 78 := Or.inl ⟨-1, ⟨by decide +kernel, rfl⟩, by decide⟩
theorem eX0_sit_78 : DJ cX0_sit 78 (.if_icmp .eq) 86 81 := ⟨8, by decide +kernel, by decide, rfl⟩
theorem eX0_sit_81 : D1 cX0_sit 81 (.aload_n 0) 82 := ⟨by decide +kernel, rfl⟩
theorem eX0_sit_82 : D1 cX0_sit 82 (.iload_n 3) 83 := ⟨by decide +kernel, rfl⟩
theorem eX0_sit_83 : D3 cX0_sit 83 (.invokevirtual 170) 86 := ⟨by decide +kernel, rfl⟩
theorem eX0_sit_86 : D1 cX0_sit 86 (.aload_n 0) 87 := ⟨by decide +kernel, rfl⟩
theorem eX0_sit_87 : D3 cX0_sit 87 (.getfield 19) 90 := ⟨by decide +kernel, rfl⟩
theorem eX0_sit_90 : D1 cX0_sit 90 (.iload_n 1) 91 := ⟨by decide +kernel, rfl⟩
theorem eX0_sit_91 : D1 cX0_sit 91 (.aaload) 92 := ⟨by decide +kernel, rfl⟩
theorem eX0_sit_92 : D3 cX0_sit 92 (.getfield 167) 95 := ⟨by decide +kernel, rfl⟩
theorem eX0_sit_95 : D1 cX0_sit 95 (.iload_n 2) 96 := ⟨by decide +kernel, rfl⟩
theorem eX0_sit_96 : D1 cX0_sit 96 (.iload_n 3) 97 := ⟨by decide +kernel, rfl⟩
theorem eX0_sit_97 : D1 cX0_sit 97 (.iastore) 98 := ⟨by decide +kernel, rfl⟩
theorem eX0_sit_98 : D2 cX0_sit 98 (.iload 4) 100 := ⟨by decide +kernel, rfl⟩
theorem eX0_sit_100 : D1 cX0_sit 100 (.ireturn) 101 := ⟨by decide +kernel, rfl⟩
theorem eX0_seat_0 : D1 cX0_seat 0 (.aload_n 0) 1 := ⟨by decide +kernel, rfl⟩
theorem eX0_seat_1 : D1 cX0_seat 1 (.iload_n 1) 2 := ⟨by decide +kernel, rfl⟩
theorem eX0_seat_2 : D1 cX0_seat 2 (.iload_n 2) 3 := ⟨by decide +kernel, rfl⟩
theorem eX0_seat_3 : D3 cX0_seat 3 (.invokevirtual 160) 6 := ⟨by decide +kernel, rfl⟩
theorem eX0_seat_6 : DJ cX0_seat 6 (.ifCond .eq) 23 9 := ⟨17, by decide +kernel, by decide, rfl⟩
theorem eX0_seat_9 : D1 cX0_seat 9 (.aload_n 0) 10 := ⟨by decide +kernel, rfl⟩
theorem eX0_seat_10 : D3 cX0_seat 10 (.getfield 19) 13 := ⟨by decide +kernel, rfl⟩
theorem eX0_seat_13 : D1 cX0_seat 13 (.iload_n 1) 14 := ⟨by decide +kernel, rfl⟩
theorem eX0_seat_14 : D1 cX0_seat 14 (.aaload) 15 := ⟨by decide +kernel, rfl⟩
theorem eX0_seat_15 : D3 cX0_seat 15 (.getfield 167) 18 := ⟨by decide +kernel, rfl⟩
theorem eX0_seat_18 : D1 cX0_seat 18 (.iload_n 2) 19 := ⟨by decide +kernel, rfl⟩
theorem eX0_seat_19 : D1 cX0_seat 19 (.iaload) 20 := ⟨by decide +kernel, rfl⟩
theorem eX0_seat_20 : DJ cX0_seat 20 .goto 24 23 := ⟨4, by decide +kernel, by decide, rfl⟩
theorem eX0_seat_23 : DC cX0_seat 23 (-1) 24 := Or.inl ⟨-1, ⟨by decide +kernel, rfl⟩, by decide⟩
theorem eX0_seat_24 : D1 cX0_seat 24 (.ireturn) 25 := ⟨by decide +kernel, rfl⟩
theorem eX0_about_0 : D1 cX0_about 0 (.aload_n 0) 1 := ⟨by decide +kernel, rfl⟩
theorem eX0_about_1 : D1 cX0_about 1 (.iload_n 1) 2 := ⟨by decide +kernel, rfl⟩
theorem eX0_about_2 : D3 cX0_about 2 (.invokevirtual 153) 5 := ⟨by decide +kernel, rfl⟩
theorem eX0_about_5 : DJ cX0_about 5 (.ifCond .ne) 10 8 := ⟨5, by decide +kernel, by decide, rfl⟩
theorem eX0_about_8 : DC cX0_about 8 (-1) 9 := Or.inl ⟨-1, ⟨by decide +kernel, rfl⟩, by decide⟩
theorem eX0_about_9 : D1 cX0_about 9 (.ireturn) 10 := ⟨by decide +kernel, rfl⟩
theorem eX0_about_10 : D1 cX0_about 10 (.iload_n 2) 11 := ⟨by decide +kernel, rfl⟩
theorem eX0_about_11 : decode cX0_about 11 = .ok (.tableswitch 115 0 3 #[29, 39, 49, 67], 29) := by decide +kernel
theorem eX0_about_40 : D1 cX0_about 40 (.aload_n 0) 41 := ⟨by decide +kernel, rfl⟩
theorem eX0_about_41 : D3 cX0_about 41 (.getfield 13) 44 := ⟨by decide +kernel, rfl⟩
theorem eX0_about_44 : D1 cX0_about 44 (.iload_n 1) 45 := ⟨by decide +kernel, rfl⟩
theorem eX0_about_45 : D1 cX0_about 45 (.aaload) 46 := ⟨by decide +kernel, rfl⟩
theorem eX0_about_46 : D3 cX0_about 46 (.invokevirtual 178) 49 := ⟨by decide +kernel, rfl⟩
theorem eX0_about_49 : D1 cX0_about 49 (.ireturn) 50 := ⟨by decide +kernel, rfl⟩
theorem eX0_about_50 : D1 cX0_about 50 (.aload_n 0) 51 := ⟨by decide +kernel, rfl⟩
theorem eX0_about_51 : D3 cX0_about 51 (.getfield 13) 54 := ⟨by decide +kernel, rfl⟩
theorem eX0_about_54 : D1 cX0_about 54 (.iload_n 1) 55 := ⟨by decide +kernel, rfl⟩
theorem eX0_about_55 : D1 cX0_about 55 (.aaload) 56 := ⟨by decide +kernel, rfl⟩
theorem eX0_about_56 : D3 cX0_about 56 (.getfield 181) 59 := ⟨by decide +kernel, rfl⟩
theorem eX0_about_59 : D1 cX0_about 59 (.ireturn) 60 := ⟨by decide +kernel, rfl⟩
theorem eX0_about_60 : D1 cX0_about 60 (.aload_n 0) 61 := ⟨by decide +kernel, rfl⟩
theorem eX0_about_61 : D3 cX0_about 61 (.getfield 13) 64 := ⟨by decide +kernel, rfl⟩
theorem eX0_about_64 : D1 cX0_about 64 (.iload_n 1) 65 := ⟨by decide +kernel, rfl⟩
theorem eX0_about_65 : D1 cX0_about 65 (.aaload) 66 := ⟨by decide +kernel, rfl⟩
theorem eX0_about_66 : D3 cX0_about 66 (.getfield 156) 69 := ⟨by decide +kernel, rfl⟩
theorem eX0_about_69 : DJ cX0_about 69 (.ifCond .eq) 76 72 := ⟨7, by decide +kernel, by decide, rfl⟩
theorem eX0_about_72 : DC cX0_about 72 (1) 73 := Or.inl ⟨1, ⟨by decide +kernel, rfl⟩, by decide⟩
theorem eX0_about_73 : DJ cX0_about 73 .goto 77 76 := ⟨4, by decide +kernel, by decide, rfl⟩
theorem eX0_about_76 : DC cX0_about 76 (0) 77 := Or.inl ⟨0, ⟨by decide +kernel, rfl⟩, by decide⟩
theorem eX0_about_77 : D1 cX0_about 77 (.ireturn) 78 := ⟨by decide +kernel, rfl⟩
theorem eX0_about_78 : DC cX0_about 78 (0) 79 := Or.inl ⟨0, ⟨by decide +kernel, rfl⟩, by decide⟩
theorem eX0_about_79 : D1 cX0_about 79 (.istore_n 3) 80 := ⟨by decide +kernel, rfl⟩
theorem eX0_about_80 : D1 cX0_about 80 (.iload_n 3) 81 := ⟨by decide +kernel, rfl⟩
theorem eX0_about_81 : D1 cX0_about 81 (.aload_n 0) 82 := ⟨by decide +kernel, rfl⟩
theorem eX0_about_82 : D3 cX0_about 82 (.getfield 107) 85 := ⟨by decide +kernel, rfl⟩
theorem eX0_about_85 : DJ cX0_about 85 (.if_icmp .ge) 124 88 := ⟨39, by decide +kernel, by decide, rfl⟩
theorem eX0_about_88 : D1 cX0_about 88 (.aload_n 0) 89 := ⟨by decide +kernel, rfl⟩
theorem eX0_about_89 : D3 cX0_about 89 (.getfield 19) 92 := ⟨by decide +kernel, rfl⟩
theorem eX0_about_92 : D1 cX0_about 92 (.iload_n 3) 93 := ⟨by decide +kernel, rfl⟩
theorem eX0_about_93 : D1 cX0_about 93 (.aaload) 94 := ⟨by decide +kernel, rfl⟩
theorem eX0_about_94 : D1 cX0_about 94 (.iload_n 1) 95 := ⟨by decide +kernel, rfl⟩
theorem eX0_about_95 : D3 cX0_about 95 (.invokevirtual 174) 98 := ⟨by decide +kernel, rfl⟩
theorem eX0_about_98 : DC cX0_about 98 (-1) 99 := Or.inl ⟨-1, ⟨by decide +kernel, rfl⟩, by decide⟩
theorem eX0_about_99 : DJ cX0_about 99 (.if_icmp .eq) 118 102 := ⟨19, by decide +kernel, by decide, rfl⟩
theorem eX0_about_102 : DC cX0_about 102 (10) 104 := Or.inr (Or.inl ⟨10, ⟨by decide +kernel, rfl⟩, by decide⟩)
theorem eX0_about_104 : D1 cX0_about 104 (.iload_n 3) 105 := ⟨by decide +kernel, rfl⟩
theorem eX0_about_105 : D1 cX0_about 105 (.imul) 106 := ⟨by decide +kernel, rfl⟩
theorem eX0_about_106 : D1 cX0_about 106 (.aload_n 0) 107 := ⟨by decide +kernel, rfl⟩
theorem eX0_about_107 : D3 cX0_about 107 (.getfield 19) 110 := ⟨by decide +kernel, rfl⟩
theorem eX0_about_110 : D1 cX0_about 110 (.iload_n 3) 111 := ⟨by decide +kernel, rfl⟩
theorem eX0_about_111 : D1 cX0_about 111 (.aaload) 112 := ⟨by decide +kernel, rfl⟩
theorem eX0_about_112 : D1 cX0_about 112 (.iload_n 1) 113 := ⟨by decide +kernel, rfl⟩
theorem eX0_about_113 : D3 cX0_about 113 (.invokevirtual 174) 116 := ⟨by decide +kernel, rfl⟩
theorem eX0_about_116 : D1 cX0_about 116 (.iadd) 117 := ⟨by decide +kernel, rfl⟩
theorem eX0_about_117 : D1 cX0_about 117 (.ireturn) 118 := ⟨by decide +kernel, rfl⟩
theorem eX0_about_118 : D3 cX0_about 118 (.iinc 3 1) 121 := ⟨by decide +kernel, rfl⟩
theorem eX0_about_121 : DJ cX0_about 121 .goto 80 124 := ⟨-41, by decide +kernel, by decide, rfl⟩
theorem eX0_about_124 : DC cX0_about 124 (-1) 125 := Or.inl ⟨-1, ⟨by decide +kernel, rfl⟩, by decide⟩
theorem eX0_about_125 : D1 cX0_about 125 (.ireturn) 126 := ⟨by decide +kernel, rfl⟩
theorem eX0_about_126 : DC cX0_about 126 (-1) 127 := Or.inl ⟨-1, ⟨by decide +kernel, rfl⟩, by decide⟩
theorem eX0_about_127 : D1 cX0_about 127 (.ireturn) 128 := ⟨by decide +kernel, rfl⟩
theorem eX0_race_0 : D1 cX0_race 0 (.aload_n 0) 1 := ⟨by decide +kernel, rfl⟩
theorem eX0_race_1 : D1 cX0_race 1 (.iload_n 1) 2 := ⟨by decide +kernel, rfl⟩
theorem eX0_race_2 : D3 cX0_race 2 (.invokevirtual 153) 5 := ⟨by decide +kernel, rfl⟩
theorem eX0_race_5 : DJ cX0_race 5 (.ifCond .eq) 16 8 := ⟨11, by decide +kernel, by decide, rfl⟩
theorem eX0_race_8 : D1 cX0_race 8 (.aload_n 0) 9 := ⟨by decide +kernel, rfl⟩
theorem eX0_race_9 : D1 cX0_race 9 (.iload_n 2) 10 := ⟨by decide +kernel, rfl⟩
theorem eX0_race_10 : D3 cX0_race 10 (.invokevirtual 153) 13 := ⟨by decide +kernel, rfl⟩
theorem eX0_race_13 : DJ cX0_race 13 (.ifCond .ne) 18 16 := ⟨5, by decide +kernel, by decide, rfl⟩
theorem eX0_race_16 : DC cX0_race 16 (-1) 17 := Or.inl ⟨-1, ⟨by decide +kernel, rfl⟩, by decide⟩
theorem eX0_race_17 : D1 cX0_race 17 (.ireturn) 18 := ⟨by decide +kernel, rfl⟩
theorem eX0_race_18 : D1 cX0_race 18 (.iload_n 1) 19 := ⟨by decide +kernel, rfl⟩
theorem eX0_race_19 : D1 cX0_race 19 (.iload_n 2) 20 := ⟨by decide +kernel, rfl⟩
theorem eX0_race_20 : DJ cX0_race 20 (.if_icmp .eq) 37 23 := ⟨17, by decide +kernel, by decide, rfl⟩
theorem eX0_race_23 : D1 cX0_race 23 (.iload_n 3) 24 := ⟨by decide +kernel, rfl⟩
theorem eX0_race_24 : D1 cX0_race 24 (.i2l) 25 := ⟨by decide +kernel, rfl⟩
theorem eX0_race_25 : D3 cX0_race 25 (.ldc2_w 203) 28 := ⟨by decide +kernel, rfl⟩
theorem eX0_race_28 : D3 cX0_race 28 (.ldc2_w 205) 31 := ⟨by decide +kernel, rfl⟩
theorem eX0_race_31 : D3 cX0_race 31 (.invokestatic 103) 34 := ⟨by decide +kernel, rfl⟩
theorem eX0_race_34 : DJ cX0_race 34 (.ifCond .ne) 40 37 := ⟨6, by decide +kernel, by decide, rfl⟩
theorem eX0_race_37 : DC cX0_race 37 (-2) 39 := Or.inr (Or.inl ⟨-2, ⟨by decide +kernel, rfl⟩, by decide⟩)
theorem eX0_race_39 : D1 cX0_race 39 (.ireturn) 40 := ⟨by decide +kernel, rfl⟩
theorem eX0_race_40 : D1 cX0_race 40 (.aload_n 0) 41 := ⟨by decide +kernel, rfl⟩
theorem eX0_race_41 : D3 cX0_race 41 (.getfield 207) 44 := ⟨by decide +kernel, rfl⟩
theorem eX0_race_44 : DC cX0_race 44 (40) 46 := Or.inr (Or.inl ⟨40, ⟨by decide +kernel, rfl⟩, by decide⟩)
theorem eX0_race_46 : DJ cX0_race 46 (.if_icmp .ne) 52 49 := ⟨6, by decide +kernel, by decide, rfl⟩
theorem eX0_race_49 : DC cX0_race 49 (-4) 51 := Or.inr (Or.inl ⟨-4, ⟨by decide +kernel, rfl⟩, by decide⟩)
theorem eX0_race_51 : D1 cX0_race 51 (.ireturn) 52 := ⟨by decide +kernel, rfl⟩
theorem eX0_race_52 : D1 cX0_race 52 (.aload_n 0) 53 := ⟨by decide +kernel, rfl⟩
theorem eX0_race_53 : D3 cX0_race 53 (.getfield 23) 56 := ⟨by decide +kernel, rfl⟩
theorem eX0_race_56 : D1 cX0_race 56 (.aload_n 0) 57 := ⟨by decide +kernel, rfl⟩
theorem eX0_race_57 : D3 cX0_race 57 (.getfield 207) 60 := ⟨by decide +kernel, rfl⟩
theorem eX0_race_60 : D1 cX0_race 60 (.iload_n 1) 61 := ⟨by decide +kernel, rfl⟩
theorem eX0_race_61 : D1 cX0_race 61 (.iastore) 62 := ⟨by decide +kernel, rfl⟩
theorem eX0_race_62 : D1 cX0_race 62 (.aload_n 0) 63 := ⟨by decide +kernel, rfl⟩
theorem eX0_race_63 : D3 cX0_race 63 (.getfield 27) 66 := ⟨by decide +kernel, rfl⟩
theorem eX0_race_66 : D1 cX0_race 66 (.aload_n 0) 67 := ⟨by decide +kernel, rfl⟩
theorem eX0_race_67 : D3 cX0_race 67 (.getfield 207) 70 := ⟨by decide +kernel, rfl⟩
theorem eX0_race_70 : D1 cX0_race 70 (.iload_n 2) 71 := ⟨by decide +kernel, rfl⟩
theorem eX0_race_71 : D1 cX0_race 71 (.iastore) 72 := ⟨by decide +kernel, rfl⟩
theorem eX0_race_72 : D1 cX0_race 72 (.aload_n 0) 73 := ⟨by decide +kernel, rfl⟩
theorem eX0_race_73 : D3 cX0_race 73 (.getfield 30) 76 := ⟨by decide +kernel, rfl⟩
theorem eX0_race_76 : D1 cX0_race 76 (.aload_n 0) 77 := ⟨by decide +kernel, rfl⟩
theorem eX0_race_77 : D3 cX0_race 77 (.getfield 207) 80 := ⟨by decide +kernel, rfl⟩
theorem eX0_race_80 : D1 cX0_race 80 (.iload_n 3) 81 := ⟨by decide +kernel, rfl⟩
theorem eX0_race_81 : D1 cX0_race 81 (.iastore) 82 := ⟨by decide +kernel, rfl⟩
theorem eX0_race_82 : D1 cX0_race 82 (.aload_n 0) 83 := ⟨by decide +kernel, rfl⟩
theorem eX0_race_83 : D1 cX0_race 83 (.dup) 84 := ⟨by decide +kernel, rfl⟩
theorem eX0_race_84 : D3 cX0_race 84 (.getfield 207) 87 := ⟨by decide +kernel, rfl⟩
theorem eX0_race_87 : DC cX0_race 87 (1) 88 := Or.inl ⟨1, ⟨by decide +kernel, rfl⟩, by decide⟩
theorem eX0_race_88 : D1 cX0_race 88 (.iadd) 89 := ⟨by decide +kernel, rfl⟩
theorem eX0_race_89 : D3 cX0_race 89 (.putfield 207) 92 := ⟨by decide +kernel, rfl⟩
theorem eX0_race_92 : D1 cX0_race 92 (.aload_n 0) 93 := ⟨by decide +kernel, rfl⟩
theorem eX0_race_93 : D3 cX0_race 93 (.getfield 207) 96 := ⟨by decide +kernel, rfl⟩
theorem eX0_race_96 : D1 cX0_race 96 (.ireturn) 97 := ⟨by decide +kernel, rfl⟩
theorem eX0_unrace_0 : D1 cX0_unrace 0 (.aload_n 0) 1 := ⟨by decide +kernel, rfl⟩
theorem eX0_unrace_1 : D3 cX0_unrace 1 (.getfield 207) 4 := ⟨by decide +kernel, rfl⟩
theorem eX0_unrace_4 : DJ cX0_unrace 4 (.ifCond .ne) 10 7 := ⟨6, by decide +kernel, by decide, rfl⟩
theorem eX0_unrace_7 : DC cX0_unrace 7 (-3) 9 := Or.inr (Or.inl ⟨-3, ⟨by decide +kernel, rfl⟩, by decide⟩)
theorem eX0_unrace_9 : D1 cX0_unrace 9 (.ireturn) 10 := ⟨by decide +kernel, rfl⟩
theorem eX0_unrace_10 : D1 cX0_unrace 10 (.aload_n 0) 11 := ⟨by decide +kernel, rfl⟩
theorem eX0_unrace_11 : D1 cX0_unrace 11 (.dup) 12 := ⟨by decide +kernel, rfl⟩
theorem eX0_unrace_12 : D3 cX0_unrace 12 (.getfield 207) 15 := ⟨by decide +kernel, rfl⟩
theorem eX0_unrace_15 : DC cX0_unrace 15 (1) 16 := Or.inl ⟨1, ⟨by decide +kernel, rfl⟩, by decide⟩
theorem eX0_unrace_16 : D1 cX0_unrace 16 (.isub) 17 := ⟨by decide +kernel, rfl⟩
theorem eX0_unrace_17 : D3 cX0_unrace 17 (.putfield 207) 20 := ⟨by decide +kernel, rfl⟩
theorem eX0_unrace_20 : D1 cX0_unrace 20 (.aload_n 0) 21 := ⟨by decide +kernel, rfl⟩
theorem eX0_unrace_21 : D3 cX0_unrace 21 (.getfield 207) 24 := ⟨by decide +kernel, rfl⟩
theorem eX0_unrace_24 : D1 cX0_unrace 24 (.ireturn) 25 := ⟨by decide +kernel, rfl⟩
theorem eX0_findParts_0 : DC cX0_findParts 0 (0) 1 := Or.inl ⟨0, ⟨by decide +kernel, rfl⟩, by decide⟩
theorem eX0_findParts_1 : D1 cX0_findParts 1 (.istore_n 1) 2 := ⟨by decide +kernel, rfl⟩
theorem eX0_findParts_2 : D1 cX0_findParts 2 (.iload_n 1) 3 := ⟨by decide +kernel, rfl⟩
theorem eX0_findParts_3 : D1 cX0_findParts 3 (.aload_n 0) 4 := ⟨by decide +kernel, rfl⟩
theorem eX0_findParts_4 : D3 cX0_findParts 4 (.getfield 100) 7 := ⟨by decide +kernel, rfl⟩
theorem eX0_findParts_7 : DJ cX0_findParts 7 (.if_icmp .ge) 23 10 := ⟨16, by decide +kernel, by decide, rfl⟩
theorem eX0_findParts_10 : D1 cX0_findParts 10 (.aload_n 0) 11 := ⟨by decide +kernel, rfl⟩
theorem eX0_findParts_11 : D3 cX0_findParts 11 (.getfield 33) 14 := ⟨by decide +kernel, rfl⟩
theorem eX0_findParts_14 : D1 cX0_findParts 14 (.iload_n 1) 15 := ⟨by decide +kernel, rfl⟩
theorem eX0_findParts_15 : D1 cX0_findParts 15 (.iload_n 1) 16 := ⟨by decide +kernel, rfl⟩
theorem eX0_findParts_16 : D1 cX0_findParts 16 (.iastore) 17 := ⟨by decide +kernel, rfl⟩
theorem eX0_findParts_17 : D3 cX0_findParts 17 (.iinc 1 1) 20 := ⟨by decide +kernel, rfl⟩
theorem eX0_findParts_20 : DJ cX0_findParts 20 .goto 2 23 := ⟨-18, by decide +kernel, by decide, rfl⟩
theorem eX0_findParts_23 : DC cX0_findParts 23 (1) 24 := Or.inl ⟨1, ⟨by decide +kernel, rfl⟩, by decide⟩
theorem eX0_findParts_24 : D1 cX0_findParts 24 (.istore_n 1) 25 := ⟨by decide +kernel, rfl⟩
theorem eX0_findParts_25 : D1 cX0_findParts 25 (.iload_n 1) 26 := ⟨by decide +kernel, rfl⟩
theorem eX0_findParts_26 : DJ cX0_findParts 26 (.ifCond .eq) 138 29 := ⟨112, by decide +kernel, by decide, rfl⟩
theorem eX0_findParts_29 : DC cX0_findParts 29 (0) 30 := Or.inl ⟨0, ⟨by decide +kernel, rfl⟩, by decide⟩
theorem eX0_findParts_30 : D1 cX0_findParts 30 (.istore_n 1) 31 := ⟨by decide +kernel, rfl⟩
theorem eX0_findParts_31 : DC cX0_findParts 31 (0) 32 := Or.inl ⟨0, ⟨by decide +kernel, rfl⟩, by decide⟩
theorem eX0_findParts_32 : D1 cX0_findParts 32 (.istore_n 2) 33 := ⟨by decide +kernel, rfl⟩
theorem eX0_findParts_33 : D1 cX0_findParts 33 (.iload_n 2) 34 := ⟨by decide +kernel, rfl⟩
theorem eX0_findParts_34 : D1 cX0_findParts 34 (.aload_n 0) 35 := ⟨by decide +kernel, rfl⟩
theorem eX0_findParts_35 : D3 cX0_findParts 35 (.getfield 207) 38 := ⟨by decide +kernel, rfl⟩
theorem eX0_findParts_38 : DJ cX0_findParts 38 (.if_icmp .ge) 135 41 := ⟨97, by decide +kernel, by decide, rfl⟩
theorem eX0_findParts_41 : D1 cX0_findParts 41 (.aload_n 0) 42 := ⟨by decide +kernel, rfl⟩
theorem eX0_findParts_42 : D3 cX0_findParts 42 (.getfield 33) 45 := ⟨by decide +kernel, rfl⟩
theorem eX0_findParts_45 : D1 cX0_findParts 45 (.aload_n 0) 46 := ⟨by decide +kernel, rfl⟩
theorem eX0_findParts_46 : D3 cX0_findParts 46 (.getfield 23) 49 := ⟨by decide +kernel, rfl⟩
theorem eX0_findParts_49 : D1 cX0_findParts 49 (.iload_n 2) 50 := ⟨by decide +kernel, rfl⟩
theorem eX0_findParts_50 : D1 cX0_findParts 50 (.iaload) 51 := ⟨by decide +kernel, rfl⟩
theorem eX0_findParts_51 : D1 cX0_findParts 51 (.iaload) 52 := ⟨by decide +kernel, rfl⟩
theorem eX0_findParts_52 : D1 cX0_findParts 52 (.aload_n 0) 53 := ⟨by decide +kernel, rfl⟩
theorem eX0_findParts_53 : D3 cX0_findParts 53 (.getfield 33) 56 := ⟨by decide +kernel, rfl⟩
theorem eX0_findParts_56 : D1 cX0_findParts 56 (.aload_n 0) 57 := ⟨by decide +kernel, rfl⟩
theorem eX0_findParts_57 : D3 cX0_findParts 57 (.getfield 27) 60 := ⟨by decide +kernel, rfl⟩
theorem eX0_findParts_60 : D1 cX0_findParts 60 (.iload_n 2) 61 := ⟨by decide +kernel, rfl⟩
theorem eX0_findParts_61 : D1 cX0_findParts 61 (.iaload) 62 := ⟨by decide +kernel, rfl⟩
theorem eX0_findParts_62 : D1 cX0_findParts 62 (.iaload) 63 := ⟨by decide +kernel, rfl⟩
theorem eX0_findParts_63 : D3 cX0_findParts 63 (.invokestatic 210) 66 := ⟨by decide +kernel, rfl⟩
theorem eX0_findParts_66 : D1 cX0_findParts 66 (.istore_n 3) 67 := ⟨by decide +kernel, rfl⟩
theorem eX0_findParts_67 : D1 cX0_findParts 67 (.iload_n 1) 68 := ⟨by decide +kernel, rfl⟩
theorem eX0_findParts_68 : D1 cX0_findParts 68 (.aload_n 0) 69 := ⟨by decide +kernel, rfl⟩
theorem eX0_findParts_69 : D3 cX0_findParts 69 (.getfield 33) 72 := ⟨by decide +kernel, rfl⟩
theorem eX0_findParts_72 : D1 cX0_findParts 72 (.aload_n 0) 73 := ⟨by decide +kernel, rfl⟩
theorem eX0_findParts_73 : D3 cX0_findParts 73 (.getfield 23) 76 := ⟨by decide +kernel, rfl⟩
theorem eX0_findParts_76 : D1 cX0_findParts 76 (.iload_n 2) 77 := ⟨by decide +kernel, rfl⟩
theorem eX0_findParts_77 : D1 cX0_findParts 77 (.iaload) 78 := ⟨by decide +kernel, rfl⟩
theorem eX0_findParts_78 : D1 cX0_findParts 78 (.iaload) 79 := ⟨by decide +kernel, rfl⟩
theorem eX0_findParts_79 : D1 cX0_findParts 79 (.iload_n 3) 80 := ⟨by decide +kernel, rfl⟩
theorem eX0_findParts_80 : DJ cX0_findParts 80 (.if_icmp .ne) 98 83 := ⟨18, by decide +kernel, by decide, rfl⟩
theorem eX0_findParts_83 : D1 cX0_findParts 83 (.aload_n 0) 84 := ⟨by decide +kernel, rfl⟩
theorem eX0_findParts_84 : D3 cX0_findParts 84 (.getfield 33) 87 := ⟨by decide +kernel, rfl⟩
theorem eX0_findParts_87 : D1 cX0_findParts 87 (.aload_n 0) 88 := ⟨by decide +kernel, rfl⟩
theorem eX0_findParts_88 : D3 cX0_findParts 88 (.getfield 27) 91 := ⟨by decide +kernel, rfl⟩
theorem eX0_findParts_91 : D1 cX0_findParts 91 (.iload_n 2) 92 := ⟨by decide +kernel, rfl⟩
theorem eX0_findParts_92 : D1 cX0_findParts 92 (.iaload) 93 := ⟨by decide +kernel, rfl⟩
theorem eX0_findParts_93 : D1 cX0_findParts 93 (.iaload) 94 := ⟨by decide +kernel, rfl⟩
theorem eX0_findParts_94 : D1 cX0_findParts 94 (.iload_n 3) 95 := ⟨by decide +kernel, rfl⟩
theorem eX0_findParts_95 : DJ cX0_findParts 95 (.if_icmp .eq) 102 98 := ⟨7, by decide +kernel, by decide, rfl⟩
theorem eX0_findParts_98 : DC cX0_findParts 98 (1) 99 := Or.inl ⟨1, ⟨by decide +kernel, rfl⟩, by decide⟩
theorem eX0_findParts_99 : DJ cX0_findParts 99 .goto 103 102 := ⟨4, by decide +kernel, by decide, rfl⟩
theorem eX0_findParts_102 : DC cX0_findParts 102 (0) 103 := Or.inl ⟨0, ⟨by decide +kernel, rfl⟩, by decide⟩
theorem eX0_findParts_103 : D1 cX0_findParts 103 (.ior) 104 := ⟨by decide +kernel, rfl⟩
theorem eX0_findParts_104 : D1 cX0_findParts 104 (.istore_n 1) 105 := ⟨by decide +kernel, rfl⟩
theorem eX0_findParts_105 : D1 cX0_findParts 105 (.aload_n 0) 106 := ⟨by decide +kernel, rfl⟩
theorem eX0_findParts_106 : D3 cX0_findParts 106 (.getfield 33) 109 := ⟨by decide +kernel, rfl⟩
theorem eX0_findParts_109 : D1 cX0_findParts 109 (.aload_n 0) 110 := ⟨by decide +kernel, rfl⟩
theorem eX0_findParts_110 : D3 cX0_findParts 110 (.getfield 23) 113 := ⟨by decide +kernel, rfl⟩
theorem eX0_findParts_113 : D1 cX0_findParts 113 (.iload_n 2) 114 := ⟨by decide +kernel, rfl⟩
theorem eX0_findParts_114 : D1 cX0_findParts 114 (.iaload) 115 := ⟨by decide +kernel, rfl⟩
theorem eX0_findParts_115 : D1 cX0_findParts 115 (.iload_n 3) 116 := ⟨by decide +kernel, rfl⟩
theorem eX0_findParts_116 : D1 cX0_findParts 116 (.iastore) 117 := ⟨by decide +kernel, rfl⟩
theorem eX0_findParts_117 : D1 cX0_findParts 117 (.aload_n 0) 118 := ⟨by decide +kernel, rfl⟩
theorem eX0_findParts_118 : D3 cX0_findParts 118 (.getfield 33) 121 := ⟨by decide +kernel, rfl⟩
theorem eX0_findParts_121 : D1 cX0_findParts 121 (.aload_n 0) 122 := ⟨by decide +kernel, rfl⟩
theorem eX0_findParts_122 : D3 cX0_findParts 122 (.getfield 27) 125 := ⟨by decide +kernel, rfl⟩
theorem eX0_findParts_125 : D1 cX0_findParts 125 (.iload_n 2) 126 := ⟨by decide +kernel, rfl⟩
theorem eX0_findParts_126 : D1 cX0_findParts 126 (.iaload) 127 := ⟨by decide +kernel, rfl⟩
theorem eX0_findParts_127 : D1 cX0_findParts 127 (.iload_n 3) 128 := ⟨by decide +kernel, rfl⟩
theorem eX0_findParts_128 : D1 cX0_findParts 128 (.iastore) 129 := ⟨by decide +kernel, rfl⟩
theorem eX0_findParts_129 : D3 cX0_findParts 129 (.iinc 2 1) 132 := ⟨by decide +kernel, rfl⟩
theorem eX0_findParts_132 : DJ cX0_findParts 132 .goto 33 135 := ⟨-99, by decide +kernel, by decide, rfl⟩
theorem eX0_findParts_135 : DJ cX0_findParts 135 .goto 25 138 := ⟨-110, by decide +kernel, by decide, rfl⟩
theorem eX0_findParts_138 : D1 cX0_findParts 138 (.return_) 139 := ⟨by decide +kernel, rfl⟩
theorem eX0_group_0 : D1 cX0_group 0 (.aload_n 0) 1 := ⟨by decide +kernel, rfl⟩
theorem eX0_group_1 : D1 cX0_group 1 (.iload_n 1) 2 := ⟨by decide +kernel, rfl⟩
theorem eX0_group_2 : D3 cX0_group 2 (.invokevirtual 153) 5 := ⟨by decide +kernel, rfl⟩
theorem eX0_group_5 : DJ cX0_group 5 (.ifCond .ne) 10 8 := ⟨5, by decide +kernel, by decide, rfl⟩
theorem eX0_group_8 : DC cX0_group 8 (-1) 9 := Or.inl ⟨-1, ⟨by decide +kernel, rfl⟩, by decide⟩
theorem eX0_group_9 : D1 cX0_group 9 (.ireturn) 10 := ⟨by decide +kernel, rfl⟩
theorem eX0_group_10 : D1 cX0_group 10 (.aload_n 0) 11 := ⟨by decide +kernel, rfl⟩
theorem eX0_group_11 : D3 cX0_group 11 (.invokevirtual 216) 14 := ⟨by decide +kernel, rfl⟩
theorem eX0_group_14 : D1 cX0_group 14 (.aload_n 0) 15 := ⟨by decide +kernel, rfl⟩
theorem eX0_group_15 : D3 cX0_group 15 (.getfield 33) 18 := ⟨by decide +kernel, rfl⟩
theorem eX0_group_18 : D1 cX0_group 18 (.iload_n 1) 19 := ⟨by decide +kernel, rfl⟩
theorem eX0_group_19 : D1 cX0_group 19 (.iaload) 20 := ⟨by decide +kernel, rfl⟩
theorem eX0_group_20 : D1 cX0_group 20 (.ireturn) 21 := ⟨by decide +kernel, rfl⟩
theorem eX0_isBig_0 : DC cX0_isBig 0 (0) 1 := Or.inl ⟨0, ⟨by decide +kernel, rfl⟩, by decide⟩
theorem eX0_isBig_1 : D1 cX0_isBig 1 (.istore_n 2) 2 := ⟨by decide +kernel, rfl⟩
theorem eX0_isBig_2 : DC cX0_isBig 2 (0) 3 := Or.inl ⟨0, ⟨by decide +kernel, rfl⟩, by decide⟩
theorem eX0_isBig_3 : D1 cX0_isBig 3 (.istore_n 3) 4 := ⟨by decide +kernel, rfl⟩
theorem eX0_isBig_4 : D1 cX0_isBig 4 (.iload_n 3) 5 := ⟨by decide +kernel, rfl⟩
theorem eX0_isBig_5 : D1 cX0_isBig 5 (.aload_n 0) 6 := ⟨by decide +kernel, rfl⟩
theorem eX0_isBig_6 : D3 cX0_isBig 6 (.getfield 100) 9 := ⟨by decide +kernel, rfl⟩
theorem eX0_isBig_9 : DJ cX0_isBig 9 (.if_icmp .ge) 31 12 := ⟨22, by decide +kernel, by decide, rfl⟩
theorem eX0_isBig_12 : D1 cX0_isBig 12 (.aload_n 0) 13 := ⟨by decide +kernel, rfl⟩
theorem eX0_isBig_13 : D3 cX0_isBig 13 (.getfield 33) 16 := ⟨by decide +kernel, rfl⟩
theorem eX0_isBig_16 : D1 cX0_isBig 16 (.iload_n 3) 17 := ⟨by decide +kernel, rfl⟩
theorem eX0_isBig_17 : D1 cX0_isBig 17 (.iaload) 18 := ⟨by decide +kernel, rfl⟩
theorem eX0_isBig_18 : D1 cX0_isBig 18 (.iload_n 1) 19 := ⟨by decide +kernel, rfl⟩
theorem eX0_isBig_19 : DJ cX0_isBig 19 (.if_icmp .ne) 25 22 := ⟨6, by decide +kernel, by decide, rfl⟩
theorem eX0_isBig_22 : D3 cX0_isBig 22 (.iinc 2 1) 25 := ⟨by decide +kernel, rfl⟩
theorem eX0_isBig_25 : D3 cX0_isBig 25 (.iinc 3 1) 28 := ⟨by decide +kernel, rfl⟩
theorem eX0_isBig_28 : DJ cX0_isBig 28 .goto 4 31 := ⟨-24, by decide +kernel, by decide, rfl⟩
theorem eX0_isBig_31 : D1 cX0_isBig 31 (.iload_n 2) 32 := ⟨by decide +kernel, rfl⟩
theorem eX0_isBig_32 : DC cX0_isBig 32 (7) 34 := Or.inr (Or.inl ⟨7, ⟨by decide +kernel, rfl⟩, by decide⟩)
theorem eX0_isBig_34 : DJ cX0_isBig 34 (.if_icmp .le) 41 37 := ⟨7, by decide +kernel, by decide, rfl⟩
theorem eX0_isBig_37 : DC cX0_isBig 37 (1) 38 := Or.inl ⟨1, ⟨by decide +kernel, rfl⟩, by decide⟩
theorem eX0_isBig_38 : DJ cX0_isBig 38 .goto 42 41 := ⟨4, by decide +kernel, by decide, rfl⟩
theorem eX0_isBig_41 : DC cX0_isBig 41 (0) 42 := Or.inl ⟨0, ⟨by decide +kernel, rfl⟩, by decide⟩
theorem eX0_isBig_42 : D1 cX0_isBig 42 (.ireturn) 43 := ⟨by decide +kernel, rfl⟩
theorem eX0_add_0 : D1 cX0_add 0 (.iload_n 1) 1 := ⟨by decide +kernel, rfl⟩
theorem eX0_add_1 : DC cX0_add 1 (-1) 2 := Or.inl ⟨-1, ⟨by decide +kernel, rfl⟩, by decide⟩
theorem eX0_add_2 : DJ cX0_add 2 (.if_icmp .ne) 6 5 := ⟨4, by decide +kernel, by decide, rfl⟩
theorem eX0_add_5 : D1 cX0_add 5 (.return_) 6 := ⟨by decide +kernel, rfl⟩
theorem eX0_add_6 : D1 cX0_add 6 (.aload_n 0) 7 := ⟨by decide +kernel, rfl⟩
theorem eX0_add_7 : D3 cX0_add 7 (.getfield 39) 10 := ⟨by decide +kernel, rfl⟩
theorem eX0_add_10 : D1 cX0_add 10 (.iload_n 1) 11 := ⟨by decide +kernel, rfl⟩
theorem eX0_add_11 : D1 cX0_add 11 (.iload_n 1) 12 := ⟨by decide +kernel, rfl⟩
theorem eX0_add_12 : D3 cX0_add 12 (.invokestatic 225) 15 := ⟨by decide +kernel, rfl⟩
theorem eX0_add_15 : D1 cX0_add 15 (.dup2) 16 := ⟨by decide +kernel, rfl⟩
theorem eX0_add_16 : D1 cX0_add 16 (.laload) 17 := ⟨by decide +kernel, rfl⟩
theorem eX0_add_17 : D1 cX0_add 17 (.lconst 1) 18 := ⟨by decide +kernel, rfl⟩
theorem eX0_add_18 : D1 cX0_add 18 (.ladd) 19 := ⟨by decide +kernel, rfl⟩
theorem eX0_add_19 : D1 cX0_add 19 (.lastore) 20 := ⟨by decide +kernel, rfl⟩
theorem eX0_add_20 : D1 cX0_add 20 (.iload_n 2) 21 := ⟨by decide +kernel, rfl⟩
theorem eX0_add_21 : DC cX0_add 21 (-1) 22 := Or.inl ⟨-1, ⟨by decide +kernel, rfl⟩, by decide⟩
theorem eX0_add_22 : DJ cX0_add 22 (.if_icmp .eq) 39 25 := ⟨17, by decide +kernel, by decide, rfl⟩
theorem eX0_add_25 : D1 cX0_add 25 (.aload_n 0) 26 := ⟨by decide +kernel, rfl⟩
theorem eX0_add_26 : D3 cX0_add 26 (.getfield 39) 29 := ⟨by decide +kernel, rfl⟩
theorem eX0_add_29 : D1 cX0_add 29 (.iload_n 1) 30 := ⟨by decide +kernel, rfl⟩
theorem eX0_add_30 : D1 cX0_add 30 (.iload_n 2) 31 := ⟨by decide +kernel, rfl⟩
theorem eX0_add_31 : D3 cX0_add 31 (.invokestatic 225) 34 := ⟨by decide +kernel, rfl⟩
theorem eX0_add_34 : D1 cX0_add 34 (.dup2) 35 := ⟨by decide +kernel, rfl⟩
theorem eX0_add_35 : D1 cX0_add 35 (.laload) 36 := ⟨by decide +kernel, rfl⟩
theorem eX0_add_36 : D1 cX0_add 36 (.lconst 1) 37 := ⟨by decide +kernel, rfl⟩
theorem eX0_add_37 : D1 cX0_add 37 (.lsub) 38 := ⟨by decide +kernel, rfl⟩
theorem eX0_add_38 : D1 cX0_add 38 (.lastore) 39 := ⟨by decide +kernel, rfl⟩
theorem eX0_add_39 : D1 cX0_add 39 (.aload_n 0) 40 := ⟨by decide +kernel, rfl⟩
theorem eX0_add_40 : D3 cX0_add 40 (.getfield 39) 43 := ⟨by decide +kernel, rfl⟩
theorem eX0_add_43 : D1 cX0_add 43 (.iload_n 1) 44 := ⟨by decide +kernel, rfl⟩
theorem eX0_add_44 : D1 cX0_add 44 (.aload_n 0) 45 := ⟨by decide +kernel, rfl⟩
theorem eX0_add_45 : D3 cX0_add 45 (.getfield 219) 48 := ⟨by decide +kernel, rfl⟩
theorem eX0_add_48 : D3 cX0_add 48 (.invokestatic 225) 51 := ⟨by decide +kernel, rfl⟩
theorem eX0_add_51 : D1 cX0_add 51 (.dup2) 52 := ⟨by decide +kernel, rfl⟩
theorem eX0_add_52 : D1 cX0_add 52 (.laload) 53 := ⟨by decide +kernel, rfl⟩
theorem eX0_add_53 : D1 cX0_add 53 (.iload_n 3) 54 := ⟨by decide +kernel, rfl⟩
theorem eX0_add_54 : D1 cX0_add 54 (.i2l) 55 := ⟨by decide +kernel, rfl⟩
theorem eX0_add_55 : D1 cX0_add 55 (.ladd) 56 := ⟨by decide +kernel, rfl⟩
theorem eX0_add_56 : D1 cX0_add 56 (.lastore) 57 := ⟨by decide +kernel, rfl⟩
theorem eX0_add_57 : D1 cX0_add 57 (.return_) 58 := ⟨by decide +kernel, rfl⟩
theorem eX0_layOut_0 : D1 cX0_layOut 0 (.aload_n 0) 1 := ⟨by decide +kernel, rfl⟩
theorem eX0_layOut_1 : DC cX0_layOut 1 (0) 2 := Or.inl ⟨0, ⟨by decide +kernel, rfl⟩, by decide⟩
theorem eX0_layOut_2 : D3 cX0_layOut 2 (.putfield 219) 5 := ⟨by decide +kernel, rfl⟩
theorem eX0_layOut_5 : DC cX0_layOut 5 (0) 6 := Or.inl ⟨0, ⟨by decide +kernel, rfl⟩, by decide⟩
theorem eX0_layOut_6 : D1 cX0_layOut 6 (.istore_n 2) 7 := ⟨by decide +kernel, rfl⟩
theorem eX0_layOut_7 : D1 cX0_layOut 7 (.iload_n 2) 8 := ⟨by decide +kernel, rfl⟩
theorem eX0_layOut_8 : D1 cX0_layOut 8 (.aload_n 0) 9 := ⟨by decide +kernel, rfl⟩
theorem eX0_layOut_9 : D3 cX0_layOut 9 (.getfield 100) 12 := ⟨by decide +kernel, rfl⟩
theorem eX0_layOut_12 : DJ cX0_layOut 12 (.if_icmp .ge) 66 15 := ⟨54, by decide +kernel, by decide, rfl⟩
theorem eX0_layOut_15 : D1 cX0_layOut 15 (.aload_n 0) 16 := ⟨by decide +kernel, rfl⟩
theorem eX0_layOut_16 : D3 cX0_layOut 16 (.getfield 36) 19 := ⟨by decide +kernel, rfl⟩
theorem eX0_layOut_19 : D1 cX0_layOut 19 (.iload_n 2) 20 := ⟨by decide +kernel, rfl⟩
theorem eX0_layOut_20 : DC cX0_layOut 20 (-1) 21 := Or.inl ⟨-1, ⟨by decide +kernel, rfl⟩, by decide⟩
theorem eX0_layOut_21 : D1 cX0_layOut 21 (.iastore) 22 := ⟨by decide +kernel, rfl⟩
theorem eX0_layOut_22 : D1 cX0_layOut 22 (.aload_n 0) 23 := ⟨by decide +kernel, rfl⟩
theorem eX0_layOut_23 : D3 cX0_layOut 23 (.getfield 33) 26 := ⟨by decide +kernel, rfl⟩
theorem eX0_layOut_26 : D1 cX0_layOut 26 (.iload_n 2) 27 := ⟨by decide +kernel, rfl⟩
theorem eX0_layOut_27 : D1 cX0_layOut 27 (.iaload) 28 := ⟨by decide +kernel, rfl⟩
theorem eX0_layOut_28 : D1 cX0_layOut 28 (.iload_n 1) 29 := ⟨by decide +kernel, rfl⟩
theorem eX0_layOut_29 : DJ cX0_layOut 29 (.if_icmp .ne) 60 32 := ⟨31, by decide +kernel, by decide, rfl⟩
theorem eX0_layOut_32 : D1 cX0_layOut 32 (.iload_n 2) 33 := ⟨by decide +kernel, rfl⟩
theorem eX0_layOut_33 : D1 cX0_layOut 33 (.iload_n 1) 34 := ⟨by decide +kernel, rfl⟩
theorem eX0_layOut_34 : DJ cX0_layOut 34 (.if_icmp .ne) 40 37 := ⟨6, by decide +kernel, by decide, rfl⟩
theorem eX0_layOut_37 : DJ cX0_layOut 37 .goto 60 40 := ⟨23, by decide +kernel, by decide, rfl⟩
theorem eX0_layOut_40 : D1 cX0_layOut 40 (.aload_n 0) 41 := ⟨by decide +kernel, rfl⟩
theorem eX0_layOut_41 : D3 cX0_layOut 41 (.getfield 36) 44 := ⟨by decide +kernel, rfl⟩
theorem eX0_layOut_44 : D1 cX0_layOut 44 (.iload_n 2) 45 := ⟨by decide +kernel, rfl⟩
theorem eX0_layOut_45 : D1 cX0_layOut 45 (.aload_n 0) 46 := ⟨by decide +kernel, rfl⟩
theorem eX0_layOut_46 : D3 cX0_layOut 46 (.getfield 219) 49 := ⟨by decide +kernel, rfl⟩
theorem eX0_layOut_49 : D1 cX0_layOut 49 (.iastore) 50 := ⟨by decide +kernel, rfl⟩
theorem eX0_layOut_50 : D1 cX0_layOut 50 (.aload_n 0) 51 := ⟨by decide +kernel, rfl⟩
theorem eX0_layOut_51 : D1 cX0_layOut 51 (.dup) 52 := ⟨by decide +kernel, rfl⟩
theorem eX0_layOut_52 : D3 cX0_layOut 52 (.getfield 219) 55 := ⟨by decide +kernel, rfl⟩
theorem eX0_layOut_55 : DC cX0_layOut 55 (1) 56 := Or.inl ⟨1, ⟨by decide +kernel, rfl⟩, by decide⟩
theorem eX0_layOut_56 : D1 cX0_layOut 56 (.iadd) 57 := ⟨by decide +kernel, rfl⟩
theorem eX0_layOut_57 : D3 cX0_layOut 57 (.putfield 219) 60 := ⟨by decide +kernel, rfl⟩
theorem eX0_layOut_60 : D3 cX0_layOut 60 (.iinc 2 1) 63 := ⟨by decide +kernel, rfl⟩
theorem eX0_layOut_63 : DJ cX0_layOut 63 .goto 7 66 := ⟨-56, by decide +kernel, by decide, rfl⟩
theorem eX0_layOut_66 : DC cX0_layOut 66 (0) 67 := Or.inl ⟨0, ⟨by decide +kernel, rfl⟩, by decide⟩
theorem eX0_layOut_67 : D1 cX0_layOut 67 (.istore_n 2) 68 := ⟨by decide +kernel, rfl⟩
theorem eX0_layOut_68 : D1 cX0_layOut 68 (.iload_n 2) 69 := ⟨by decide +kernel, rfl⟩
theorem eX0_layOut_69 : D1 cX0_layOut 69 (.aload_n 0) 70 := ⟨by decide +kernel, rfl⟩
theorem eX0_layOut_70 : D3 cX0_layOut 70 (.getfield 39) 73 := ⟨by decide +kernel, rfl⟩
theorem eX0_layOut_73 : D1 cX0_layOut 73 (.arraylength) 74 := ⟨by decide +kernel, rfl⟩
theorem eX0_layOut_74 : DJ cX0_layOut 74 (.if_icmp .ge) 90 77 := ⟨16, by decide +kernel, by decide, rfl⟩
theorem eX0_layOut_77 : D1 cX0_layOut 77 (.aload_n 0) 78 := ⟨by decide +kernel, rfl⟩
theorem eX0_layOut_78 : D3 cX0_layOut 78 (.getfield 39) 81 := ⟨by decide +kernel, rfl⟩
theorem eX0_layOut_81 : D1 cX0_layOut 81 (.iload_n 2) 82 := ⟨by decide +kernel, rfl⟩
theorem eX0_layOut_82 : D1 cX0_layOut 82 (.lconst 0) 83 := ⟨by decide +kernel, rfl⟩
theorem eX0_layOut_83 : D1 cX0_layOut 83 (.lastore) 84 := ⟨by decide +kernel, rfl⟩
theorem eX0_layOut_84 : D3 cX0_layOut 84 (.iinc 2 1) 87 := ⟨by decide +kernel, rfl⟩
theorem eX0_layOut_87 : DJ cX0_layOut 87 .goto 68 90 := ⟨-19, by decide +kernel, by decide, rfl⟩
theorem eX0_layOut_90 : DC cX0_layOut 90 (0) 91 := Or.inl ⟨0, ⟨by decide +kernel, rfl⟩, by decide⟩
theorem eX0_layOut_91 : D1 cX0_layOut 91 (.istore_n 2) 92 := ⟨by decide +kernel, rfl⟩
theorem eX0_layOut_92 : D1 cX0_layOut 92 (.iload_n 2) 93 := ⟨by decide +kernel, rfl⟩
theorem eX0_layOut_93 : D1 cX0_layOut 93 (.aload_n 0) 94 := ⟨by decide +kernel, rfl⟩
theorem eX0_layOut_94 : D3 cX0_layOut 94 (.getfield 207) 97 := ⟨by decide +kernel, rfl⟩
theorem eX0_layOut_97 : DJ cX0_layOut 97 (.if_icmp .ge) 189 100 := ⟨92, by decide +kernel, by decide, rfl⟩
theorem eX0_layOut_100 : D1 cX0_layOut 100 (.aload_n 0) 101 := ⟨by decide +kernel, rfl⟩
theorem eX0_layOut_101 : D3 cX0_layOut 101 (.getfield 33) 104 := ⟨by decide +kernel, rfl⟩
theorem eX0_layOut_104 : D1 cX0_layOut 104 (.aload_n 0) 105 := ⟨by decide +kernel, rfl⟩
theorem eX0_layOut_105 : D3 cX0_layOut 105 (.getfield 23) 108 := ⟨by decide +kernel, rfl⟩
theorem eX0_layOut_108 : D1 cX0_layOut 108 (.iload_n 2) 109 := ⟨by decide +kernel, rfl⟩
theorem eX0_layOut_109 : D1 cX0_layOut 109 (.iaload) 110 := ⟨by decide +kernel, rfl⟩
theorem eX0_layOut_110 : D1 cX0_layOut 110 (.iaload) 111 := ⟨by decide +kernel, rfl⟩
theorem eX0_layOut_111 : D1 cX0_layOut 111 (.iload_n 1) 112 := ⟨by decide +kernel, rfl⟩
theorem eX0_layOut_112 : DJ cX0_layOut 112 (.if_icmp .eq) 118 115 := ⟨6, by decide +kernel, by decide, rfl⟩
theorem eX0_layOut_115 : DJ cX0_layOut 115 .goto 183 118 := ⟨68, by decide +kernel, by decide, rfl⟩
theorem eX0_layOut_118 : D1 cX0_layOut 118 (.aload_n 0) 119 := ⟨by decide +kernel, rfl⟩
theorem eX0_layOut_119 : D1 cX0_layOut 119 (.aload_n 0) 120 := ⟨by decide +kernel, rfl⟩
theorem eX0_layOut_120 : D3 cX0_layOut 120 (.getfield 36) 123 := ⟨by decide +kernel, rfl⟩
theorem eX0_layOut_123 : D1 cX0_layOut 123 (.aload_n 0) 124 := ⟨by decide +kernel, rfl⟩
theorem eX0_layOut_124 : D3 cX0_layOut 124 (.getfield 23) 127 := ⟨by decide +kernel, rfl⟩
theorem eX0_layOut_127 : D1 cX0_layOut 127 (.iload_n 2) 128 := ⟨by decide +kernel, rfl⟩
theorem eX0_layOut_128 : D1 cX0_layOut 128 (.iaload) 129 := ⟨by decide +kernel, rfl⟩
theorem eX0_layOut_129 : D1 cX0_layOut 129 (.iaload) 130 := ⟨by decide +kernel, rfl⟩
theorem eX0_layOut_130 : D1 cX0_layOut 130 (.aload_n 0) 131 := ⟨by decide +kernel, rfl⟩
theorem eX0_layOut_131 : D3 cX0_layOut 131 (.getfield 36) 134 := ⟨by decide +kernel, rfl⟩
theorem eX0_layOut_134 : D1 cX0_layOut 134 (.aload_n 0) 135 := ⟨by decide +kernel, rfl⟩
theorem eX0_layOut_135 : D3 cX0_layOut 135 (.getfield 27) 138 := ⟨by decide +kernel, rfl⟩
theorem eX0_layOut_138 : D1 cX0_layOut 138 (.iload_n 2) 139 := ⟨by decide +kernel, rfl⟩
theorem eX0_layOut_139 : D1 cX0_layOut 139 (.iaload) 140 := ⟨by decide +kernel, rfl⟩
theorem eX0_layOut_140 : D1 cX0_layOut 140 (.iaload) 141 := ⟨by decide +kernel, rfl⟩
theorem eX0_layOut_141 : D1 cX0_layOut 141 (.aload_n 0) 142 := ⟨by decide +kernel, rfl⟩
theorem eX0_layOut_142 : D3 cX0_layOut 142 (.getfield 30) 145 := ⟨by decide +kernel, rfl⟩
theorem eX0_layOut_145 : D1 cX0_layOut 145 (.iload_n 2) 146 := ⟨by decide +kernel, rfl⟩
theorem eX0_layOut_146 : D1 cX0_layOut 146 (.iaload) 147 := ⟨by decide +kernel, rfl⟩
theorem eX0_layOut_147 : D3 cX0_layOut 147 (.invokevirtual 222) 150 := ⟨by decide +kernel, rfl⟩
theorem eX0_layOut_150 : D1 cX0_layOut 150 (.aload_n 0) 151 := ⟨by decide +kernel, rfl⟩
theorem eX0_layOut_151 : D1 cX0_layOut 151 (.aload_n 0) 152 := ⟨by decide +kernel, rfl⟩
theorem eX0_layOut_152 : D3 cX0_layOut 152 (.getfield 36) 155 := ⟨by decide +kernel, rfl⟩
theorem eX0_layOut_155 : D1 cX0_layOut 155 (.aload_n 0) 156 := ⟨by decide +kernel, rfl⟩
theorem eX0_layOut_156 : D3 cX0_layOut 156 (.getfield 27) 159 := ⟨by decide +kernel, rfl⟩
theorem eX0_layOut_159 : D1 cX0_layOut 159 (.iload_n 2) 160 := ⟨by decide +kernel, rfl⟩
theorem eX0_layOut_160 : D1 cX0_layOut 160 (.iaload) 161 := ⟨by decide +kernel, rfl⟩
theorem eX0_layOut_161 : D1 cX0_layOut 161 (.iaload) 162 := ⟨by decide +kernel, rfl⟩
theorem eX0_layOut_162 : D1 cX0_layOut 162 (.aload_n 0) 163 := ⟨by decide +kernel, rfl⟩
theorem eX0_layOut_163 : D3 cX0_layOut 163 (.getfield 36) 166 := ⟨by decide +kernel, rfl⟩
theorem eX0_layOut_166 : D1 cX0_layOut 166 (.aload_n 0) 167 := ⟨by decide +kernel, rfl⟩
theorem eX0_layOut_167 : D3 cX0_layOut 167 (.getfield 23) 170 := ⟨by decide +kernel, rfl⟩
theorem eX0_layOut_170 : D1 cX0_layOut 170 (.iload_n 2) 171 := ⟨by decide +kernel, rfl⟩
theorem eX0_layOut_171 : D1 cX0_layOut 171 (.iaload) 172 := ⟨by decide +kernel, rfl⟩
theorem eX0_layOut_172 : D1 cX0_layOut 172 (.iaload) 173 := ⟨by decide +kernel, rfl⟩
theorem eX0_layOut_173 : D1 cX0_layOut 173 (.aload_n 0) 174 := ⟨by decide +kernel, rfl⟩
theorem eX0_layOut_174 : D3 cX0_layOut 174 (.getfield 30) 177 := ⟨by decide +kernel, rfl⟩
theorem eX0_layOut_177 : D1 cX0_layOut 177 (.iload_n 2) 178 := ⟨by decide +kernel, rfl⟩
theorem eX0_layOut_178 : D1 cX0_layOut 178 (.iaload) 179 := ⟨by decide +kernel, rfl⟩
theorem eX0_layOut_179 : D1 cX0_layOut 179 (.ineg) 180 := ⟨by decide +kernel, rfl⟩
theorem eX0_layOut_180 : D3 cX0_layOut 180 (.invokevirtual 222) 183 := ⟨by decide +kernel, rfl⟩
theorem eX0_layOut_183 : D3 cX0_layOut 183 (.iinc 2 1) 186 := ⟨by decide +kernel, rfl⟩
theorem eX0_layOut_186 : DJ cX0_layOut 186 .goto 92 189 := ⟨-94, by decide +kernel, by decide, rfl⟩
theorem eX0_layOut_189 : D1 cX0_layOut 189 (.return_) 190 := ⟨by decide +kernel, rfl⟩
theorem eX0_solve_0 : D1 cX0_solve 0 (.lconst 1) 1 := ⟨by decide +kernel, rfl⟩
theorem eX0_solve_1 : D1 cX0_solve 1 (.lstore_n 1) 2 := ⟨by decide +kernel, rfl⟩
theorem eX0_solve_2 : DC cX0_solve 2 (0) 3 := Or.inl ⟨0, ⟨by decide +kernel, rfl⟩, by decide⟩
theorem eX0_solve_3 : D1 cX0_solve 3 (.istore_n 3) 4 := ⟨by decide +kernel, rfl⟩
theorem eX0_solve_4 : D1 cX0_solve 4 (.iload_n 3) 5 := ⟨by decide +kernel, rfl⟩
theorem eX0_solve_5 : D1 cX0_solve 5 (.aload_n 0) 6 := ⟨by decide +kernel, rfl⟩
theorem eX0_solve_6 : D3 cX0_solve 6 (.getfield 219) 9 := ⟨by decide +kernel, rfl⟩
theorem eX0_solve_9 : DJ cX0_solve 9 (.if_icmp .ge) 135 12 := ⟨126, by decide +kernel, by decide, rfl⟩
theorem eX0_solve_12 : D1 cX0_solve 12 (.aload_n 0) 13 := ⟨by decide +kernel, rfl⟩
theorem eX0_solve_13 : D3 cX0_solve 13 (.getfield 39) 16 := ⟨by decide +kernel, rfl⟩
theorem eX0_solve_16 : D1 cX0_solve 16 (.iload_n 3) 17 := ⟨by decide +kernel, rfl⟩
theorem eX0_solve_17 : D1 cX0_solve 17 (.iload_n 3) 18 := ⟨by decide +kernel, rfl⟩
theorem eX0_solve_18 : D3 cX0_solve 18 (.invokestatic 225) 21 := ⟨by decide +kernel, rfl⟩
theorem eX0_solve_21 : D1 cX0_solve 21 (.laload) 22 := ⟨by decide +kernel, rfl⟩
theorem eX0_solve_22 : D2 cX0_solve 22 (.lstore 4) 24 := ⟨by decide +kernel, rfl⟩
theorem eX0_solve_24 : DC cX0_solve 24 (0) 25 := Or.inl ⟨0, ⟨by decide +kernel, rfl⟩, by decide⟩
theorem eX0_solve_25 : D2 cX0_solve 25 (.istore 6) 27 := ⟨by decide +kernel, rfl⟩
theorem eX0_solve_27 : D2 cX0_solve 27 (.iload 6) 29 := ⟨by decide +kernel, rfl⟩
theorem eX0_solve_29 : D1 cX0_solve 29 (.aload_n 0) 30 := ⟨by decide +kernel, rfl⟩
theorem eX0_solve_30 : D3 cX0_solve 30 (.getfield 219) 33 := ⟨by decide +kernel, rfl⟩
theorem eX0_solve_33 : DJ cX0_solve 33 (.if_icmp .ge) 126 36 := ⟨93, by decide +kernel, by decide, rfl⟩
theorem eX0_solve_36 : D2 cX0_solve 36 (.iload 6) 38 := ⟨by decide +kernel, rfl⟩
theorem eX0_solve_38 : D1 cX0_solve 38 (.iload_n 3) 39 := ⟨by decide +kernel, rfl⟩
theorem eX0_solve_39 : DJ cX0_solve 39 (.if_icmp .ne) 45 42 := ⟨6, by decide +kernel, by decide, rfl⟩
theorem eX0_solve_42 : DJ cX0_solve 42 .goto 120 45 := ⟨78, by decide +kernel, by decide, rfl⟩
theorem eX0_solve_45 : D1 cX0_solve 45 (.aload_n 0) 46 := ⟨by decide +kernel, rfl⟩
theorem eX0_solve_46 : D3 cX0_solve 46 (.getfield 39) 49 := ⟨by decide +kernel, rfl⟩
theorem eX0_solve_49 : D2 cX0_solve 49 (.iload 6) 51 := ⟨by decide +kernel, rfl⟩
theorem eX0_solve_51 : D1 cX0_solve 51 (.iload_n 3) 52 := ⟨by decide +kernel, rfl⟩
theorem eX0_solve_52 : D3 cX0_solve 52 (.invokestatic 225) 55 := ⟨by decide +kernel, rfl⟩
theorem eX0_solve_55 : D1 cX0_solve 55 (.laload) 56 := ⟨by decide +kernel, rfl⟩
theorem eX0_solve_56 : D2 cX0_solve 56 (.lstore 7) 58 := ⟨by decide +kernel, rfl⟩
theorem eX0_solve_58 : DC cX0_solve 58 (0) 59 := Or.inl ⟨0, ⟨by decide +kernel, rfl⟩, by decide⟩
theorem eX0_solve_59 : D2 cX0_solve 59 (.istore 9) 61 := ⟨by decide +kernel, rfl⟩
theorem eX0_solve_61 : D2 cX0_solve 61 (.iload 9) 63 := ⟨by decide +kernel, rfl⟩
theorem eX0_solve_63 : D1 cX0_solve 63 (.aload_n 0) 64 := ⟨by decide +kernel, rfl⟩
theorem eX0_solve_64 : D3 cX0_solve 64 (.getfield 219) 67 := ⟨by decide +kernel, rfl⟩
theorem eX0_solve_67 : DJ cX0_solve 67 (.if_icmp .gt) 120 70 := ⟨53, by decide +kernel, by decide, rfl⟩
theorem eX0_solve_70 : D1 cX0_solve 70 (.aload_n 0) 71 := ⟨by decide +kernel, rfl⟩
theorem eX0_solve_71 : D3 cX0_solve 71 (.getfield 39) 74 := ⟨by decide +kernel, rfl⟩
theorem eX0_solve_74 : D2 cX0_solve 74 (.iload 6) 76 := ⟨by decide +kernel, rfl⟩
theorem eX0_solve_76 : D2 cX0_solve 76 (.iload 9) 78 := ⟨by decide +kernel, rfl⟩
theorem eX0_solve_78 : D3 cX0_solve 78 (.invokestatic 225) 81 := ⟨by decide +kernel, rfl⟩
theorem eX0_solve_81 : D1 cX0_solve 81 (.aload_n 0) 82 := ⟨by decide +kernel, rfl⟩
theorem eX0_solve_82 : D3 cX0_solve 82 (.getfield 39) 85 := ⟨by decide +kernel, rfl⟩
theorem eX0_solve_85 : D2 cX0_solve 85 (.iload 6) 87 := ⟨by decide +kernel, rfl⟩
theorem eX0_solve_87 : D2 cX0_solve 87 (.iload 9) 89 := ⟨by decide +kernel, rfl⟩
theorem eX0_solve_89 : D3 cX0_solve 89 (.invokestatic 225) 92 := ⟨by decide +kernel, rfl⟩
theorem eX0_solve_92 : D1 cX0_solve 92 (.laload) 93 := ⟨by decide +kernel, rfl⟩
theorem eX0_solve_93 : D2 cX0_solve 93 (.lload 4) 95 := ⟨by decide +kernel, rfl⟩
theorem eX0_solve_95 : D1 cX0_solve 95 (.lmul) 96 := ⟨by decide +kernel, rfl⟩
theorem eX0_solve_96 : D1 cX0_solve 96 (.aload_n 0) 97 := ⟨by decide +kernel, rfl⟩
theorem eX0_solve_97 : D3 cX0_solve 97 (.getfield 39) 100 := ⟨by decide +kernel, rfl⟩
theorem eX0_solve_100 : D1 cX0_solve 100 (.iload_n 3) 101 := ⟨by decide +kernel, rfl⟩
theorem eX0_solve_101 : D2 cX0_solve 101 (.iload 9) 103 := ⟨by decide +kernel, rfl⟩
theorem eX0_solve_103 : D3 cX0_solve 103 (.invokestatic 225) 106 := ⟨by decide +kernel, rfl⟩
theorem eX0_solve_106 : D1 cX0_solve 106 (.laload) 107 := ⟨by decide +kernel, rfl⟩
theorem eX0_solve_107 : D2 cX0_solve 107 (.lload 7) 109 := ⟨by decide +kernel, rfl⟩
theorem eX0_solve_109 : D1 cX0_solve 109 (.lmul) 110 := ⟨by decide +kernel, rfl⟩
theorem eX0_solve_110 : D1 cX0_solve 110 (.lsub) 111 := ⟨by decide +kernel, rfl⟩
theorem eX0_solve_111 : D1 cX0_solve 111 (.lload_n 1) 112 := ⟨by decide +kernel, rfl⟩
theorem eX0_solve_112 : D1 cX0_solve 112 (.ldiv) 113 := ⟨by decide +kernel, rfl⟩
theorem eX0_solve_113 : D1 cX0_solve 113 (.lastore) 114 := ⟨by decide +kernel, rfl⟩
theorem eX0_solve_114 : D3 cX0_solve 114 (.iinc 9 1) 117 := ⟨by decide +kernel, rfl⟩
theorem eX0_solve_117 : DJ cX0_solve 117 .goto 61 120 := ⟨-56, by decide +kernel, by decide, rfl⟩
theorem eX0_solve_120 : D3 cX0_solve 120 (.iinc 6 1) 123 := ⟨by decide +kernel, rfl⟩
theorem eX0_solve_123 : DJ cX0_solve 123 .goto 27 126 := ⟨-96, by decide +kernel, by decide, rfl⟩
theorem eX0_solve_126 : D2 cX0_solve 126 (.lload 4) 128 := ⟨by decide +kernel, rfl⟩
theorem eX0_solve_128 : D1 cX0_solve 128 (.lstore_n 1) 129 := ⟨by decide +kernel, rfl⟩
theorem eX0_solve_129 : D3 cX0_solve 129 (.iinc 3 1) 132 := ⟨by decide +kernel, rfl⟩
theorem eX0_solve_132 : DJ cX0_solve 132 .goto 4 135 := ⟨-128, by decide +kernel, by decide, rfl⟩
theorem eX0_solve_135 : D1 cX0_solve 135 (.aload_n 0) 136 := ⟨by decide +kernel, rfl⟩
theorem eX0_solve_136 : D1 cX0_solve 136 (.aload_n 0) 137 := ⟨by decide +kernel, rfl⟩
theorem eX0_solve_137 : D3 cX0_solve 137 (.getfield 219) 140 := ⟨by decide +kernel, rfl⟩
theorem eX0_solve_140 : DJ cX0_solve 140 (.ifCond .ne) 147 143 := ⟨7, by decide +kernel, by decide, rfl⟩
theorem eX0_solve_143 : D1 cX0_solve 143 (.lconst 1) 144 := ⟨by decide +kernel, rfl⟩
theorem eX0_solve_144 : DJ cX0_solve 144 .goto 148 147 := ⟨4, by decide +kernel, by decide, rfl⟩
theorem eX0_solve_147 : D1 cX0_solve 147 (.lload_n 1) 148 := ⟨by decide +kernel, rfl⟩
theorem eX0_solve_148 : D3 cX0_solve 148 (.putfield 228) 151 := ⟨by decide +kernel, rfl⟩
theorem eX0_solve_151 : D1 cX0_solve 151 (.return_) 152 := ⟨by decide +kernel, rfl⟩
def sX_isOar (w : Wd) (a1 : Int32) : Option (Int32) :=
  bd (sX_in (Int32.toInt64 a1) (0 : Int64) (Int32.toInt64 ((w.2.1 90 2) - (1 : Int32)))) fun v1 => gd (isB v1) (some v1)
abbrev rmX0_isOar : Room := { frames := 1, cells := 0, slots := 0, locals := 25 }
theorem pkX0_isOar : PkV yX0_isOar RX0 cX0_isOar 2 (some .boolean) 1 := ⟨q327, qs1, q57, q328, by decide +kernel⟩
set_option maxHeartbeats 4000000 in
theorem met_X0_isOar (l : Launch) (D : va_G) (g : Nat → ClassId) (ad sd : Nat → Nat) (w : Wd) (a1 : Int32) (sz : Nat) (r : Int32) (ho : sX_isOar w a1 = some r) : Met l yX0_isOar (ws_ yX0_isOar cX0_isOar 2 (some .boolean)) rmX0_isOar (va_Pc [.ref (ad 99), .int a1] (MPre D vwCl (tysG g) (cellsX g ad w) (NXX sd (cellsX g ad w)) sz)) (QcI D vwCl (tysG g) (cellsX g ad w) r (va_A (cellsX g ad w) sz)) 0 0 (va_A (cellsX g ad w) sz) := by
  refine met_XJ (cw := cellsX g ad) (w := w) (cc := cX0_isOar) (lv := [(0, .ref (ad 99)), (1, .int a1)]) pnX0 _ (Nat.le_of_ble_eq_true rfl) rfl ?_
  intro p e s m args below meth c R Q A B hN hr hsz hA hmm hRm hQ hAe
  have hX : NXA sd A s := by rw [hAe, ← hsz]; exact hN
  unfold sX_isOar at ho
  refine j_iload_n B eX0_isOar_0 1 rfl ?_
  refine j_i2l B eX0_isOar_1 ?_
  refine j_lconst (v := 0) B eX0_isOar_2 rfl ?_
  refine j_aload_n B eX0_isOar_3 0 rfl ?_
  refine gfX_2 B eX0_isOar_4 ?_
  refine j_const B eX0_isOar_7 ?_
  refine j_isub B eX0_isOar_8 ?_
  refine j_i2l B eX0_isOar_9 ?_
  refine j_callSi (As := [.long (Int32.toInt64 a1), .long (0 : Int64), .long (Int32.toInt64 ((w.2.1 90 2) - (1 : Int32)))]) B hA (met_X0_in l D _ _ _ (Int32.toInt64 a1) (0 : Int64) (Int32.toInt64 ((w.2.1 90 2) - (1 : Int32)))) NT_ok pkX0_in q224 rfl rfl hRm ⟨Nat.le_of_ble_eq_true rfl, Nat.le_of_ble_eq_true rfl⟩ rfl rfl (Nat.le_of_ble_eq_true rfl) ⟨Nat.zero_le _, Nat.zero_le _⟩ eX0_isOar_10 ho (fun v1 ho => ?_)
  obtain ⟨hb, ho⟩ := gd_e ho
  exact j_zret B hr hb hQ eX0_isOar_13 ho
def sX_ill (w : Wd) (a1 : Int32) (a2 : Int32) : Option (Int32 × Wd) :=
  bd (sX_isOar w a1) fun v1 => if v1 = 0 then (some ((-1 : Int32), w)) else (bd (sX_in (Int32.toInt64 a2) (0 : Int64) (1 : Int64)) fun v2 => if v2 = 0 then (some ((-2 : Int32), w)) else (rd (inb a1 16 && decide (Int32.toNatClampNeg a1 < w.1 4)) (Int32.toNatClampNeg a1) fun k3 => rd (oOk w k3) (w.2.1 (102 + 10 * k3) 2) fun v4 => jn (fun z5 => nm z5 fun x7 => rd (inb a1 16 && decide (Int32.toNatClampNeg a1 < w.1 4)) (Int32.toNatClampNeg a1) fun k8 => jn (fun z9 => rd (oOk w k8 && isB z9) (stG w (102 + 10 * k8) 2 z9) fun w11 => some (x7, w11)) fun J10 => if a2 = (1 : Int32) then (J10 (1 : Int32)) else (J10 (0 : Int32))) fun J6 => if v4 = 0 then (J6 (0 : Int32)) else (J6 (1 : Int32))))
abbrev rmX0_ill : Room := { frames := 2, cells := 0, slots := 0, locals := 46 }
theorem pkX0_ill : PkV yX0_ill RX0 cX0_ill 4 (some .int) 2 := ⟨q322, q323, q57, q324, by decide +kernel⟩
set_option maxHeartbeats 4000000 in
theorem met_X0_ill (l : Launch) (D : va_G) (g : Nat → ClassId) (ad sd : Nat → Nat) (w : Wd) (a1 : Int32) (a2 : Int32) (sz : Nat) (r : Int32) (w' : Wd) (ho : sX_ill w a1 a2 = some (r, w')) : Met l yX0_ill (ws_ yX0_ill cX0_ill 4 (some .int)) rmX0_ill (va_Pc [.ref (ad 99), .int a1, .int a2] (MPre D vwCl (tysG g) (cellsX g ad w) (NXX sd (cellsX g ad w)) sz)) (QcI D vwCl (tysG g) (cellsX g ad w') r (va_A (cellsX g ad w) sz)) 0 0 (va_A (cellsX g ad w) sz) := by
  refine met_XJ (cw := cellsX g ad) (w := w) (cc := cX0_ill) (lv := [(0, .ref (ad 99)), (1, .int a1), (2, .int a2)]) pnX0 _ (Nat.le_of_ble_eq_true rfl) rfl ?_
  intro p e s m args below meth c R Q A B hN hr hsz hA hmm hRm hQ hAe
  have hX : NXA sd A s := by rw [hAe, ← hsz]; exact hN
  unfold sX_ill at ho
  refine j_aload_n B eX0_ill_0 0 rfl ?_
  refine j_iload_n B eX0_ill_1 1 rfl ?_
  refine j_callVi (As := [.int a1]) B hA (met_X0_isOar l D g ad sd w a1) (NXX_ok hX) pkX0_isOar q325 0 rfl rfl rfl rfl hRm ⟨Nat.le_of_ble_eq_true rfl, Nat.le_of_ble_eq_true rfl⟩ rfl rfl (Nat.le_of_ble_eq_true rfl) ⟨Nat.zero_le _, Nat.zero_le _⟩ eX0_ill_2 ho (fun v1 ho => ?_)
  refine j_if_ne B eX0_ill_5 ho (fun _ ho => ?_) (fun _ ho => ?_)
  · refine j_iload_n B eX0_ill_10 2 rfl ?_
    refine j_i2l B eX0_ill_11 ?_
    refine j_lconst (v := 0) B eX0_ill_12 rfl ?_
    refine j_lconst (v := 1) B eX0_ill_13 rfl ?_
    refine j_callSi (As := [.long (Int32.toInt64 a2), .long (0 : Int64), .long (1 : Int64)]) B hA (met_X0_in l D _ _ _ (Int32.toInt64 a2) (0 : Int64) (1 : Int64)) NT_ok pkX0_in q224 rfl rfl hRm ⟨Nat.le_of_ble_eq_true rfl, Nat.le_of_ble_eq_true rfl⟩ rfl rfl (Nat.le_of_ble_eq_true rfl) ⟨Nat.zero_le _, Nat.zero_le _⟩ eX0_ill_14 ho (fun v2 ho => ?_)
    refine j_if_ne B eX0_ill_17 ho (fun _ ho => ?_) (fun _ ho => ?_)
    · refine j_aload_n B eX0_ill_23 0 rfl ?_
      refine gfX_0 B eX0_ill_24 ?_
      refine j_iload_n B eX0_ill_27 1 rfl ?_
      refine alX_0 B eX0_ill_28 ho (fun k3 ho => ?_)
      refine gfO_2 B q246 eX0_ill_29 ho (fun v4 ho => ?_)
      refine jn1 (C := fun z5 => XJ p l e R s m args below meth c 0 0 Q A D vwCl (cellsX g ad) 4 w 40 [(0, .ref (ad 99)), (1, .int a1), (2, .int a2)] [.int z5]) ho (fun z5 ho => ?_) (fun J6 hJ6 ho => ?_)
      · refine j_istore_n (lv' := fun x7 => [(0, .ref (ad 99)), (1, .int a1), (2, .int a2), (3, .int x7)]) B eX0_ill_40 [1, 2, 3, 0] (by decide) (fun _ => rfl) ho (fun x7 ho => ?_)
        refine j_aload_n B eX0_ill_41 0 rfl ?_
        refine gfX_0 B eX0_ill_42 ?_
        refine j_iload_n B eX0_ill_45 1 rfl ?_
        refine alX_0 B eX0_ill_46 ho (fun k8 ho => ?_)
        refine j_iload_n B eX0_ill_47 2 rfl ?_
        refine j_const B eX0_ill_48 ?_
        refine jn1 (C := fun z9 => XJ p l e R s m args below meth c 0 0 Q A D vwCl (cellsX g ad) 4 w 57 [(3, .int x7)] [.int z9, .ref (ad (102 + 10 * k8))]) ho (fun z9 ho => ?_) (fun J10 hJ10 ho => ?_)
        · refine pfO_2 B q246 eX0_ill_57 ho (fun w11 ho => ?_)
          refine j_iload_n B eX0_ill_60 0 rfl ?_
          exact j_iretw B hr hQ eX0_ill_61 ho
        · refine j_icmp_ne B eX0_ill_49 ho (fun _ ho => ?_) (fun _ ho => ?_)
          · refine j_const B eX0_ill_56 ?_
            refine j_lsub (lv' := [(3, .int x7)]) [3] rfl ?_
            exact hJ10 _ ho
          · refine j_const B eX0_ill_52 ?_
            refine j_goto B eX0_ill_53 ?_
            refine j_lsub (lv' := [(3, .int x7)]) [3] rfl ?_
            exact hJ10 _ ho
      · refine j_if_eq B eX0_ill_32 ho (fun _ ho => ?_) (fun _ ho => ?_)
        · refine j_const B eX0_ill_39 ?_
          exact hJ6 _ ho
        · refine j_const B eX0_ill_35 ?_
          refine j_goto B eX0_ill_36 ?_
          exact hJ6 _ ho
    · refine j_const B eX0_ill_20 ?_
      exact j_iretw B hr hQ eX0_ill_22 ho
  · refine j_const B eX0_ill_8 ?_
    exact j_iretw B hr hQ eX0_ill_9 ho
def sX_isBoat (w : Wd) (a1 : Int32) : Option (Int32) :=
  bd (sX_in (Int32.toInt64 a1) (0 : Int64) (Int32.toInt64 ((w.2.1 90 3) - (1 : Int32)))) fun v1 => gd (isB v1) (some v1)
abbrev rmX0_isBoat : Room := { frames := 1, cells := 0, slots := 0, locals := 25 }
theorem pkX0_isBoat : PkV yX0_isBoat RX0 cX0_isBoat 2 (some .boolean) 1 := ⟨q339, qs3, q57, q340, by decide +kernel⟩
set_option maxHeartbeats 4000000 in
theorem met_X0_isBoat (l : Launch) (D : va_G) (g : Nat → ClassId) (ad sd : Nat → Nat) (w : Wd) (a1 : Int32) (sz : Nat) (r : Int32) (ho : sX_isBoat w a1 = some r) : Met l yX0_isBoat (ws_ yX0_isBoat cX0_isBoat 2 (some .boolean)) rmX0_isBoat (va_Pc [.ref (ad 99), .int a1] (MPre D vwCl (tysG g) (cellsX g ad w) (NXX sd (cellsX g ad w)) sz)) (QcI D vwCl (tysG g) (cellsX g ad w) r (va_A (cellsX g ad w) sz)) 0 0 (va_A (cellsX g ad w) sz) := by
  refine met_XJ (cw := cellsX g ad) (w := w) (cc := cX0_isBoat) (lv := [(0, .ref (ad 99)), (1, .int a1)]) pnX0 _ (Nat.le_of_ble_eq_true rfl) rfl ?_
  intro p e s m args below meth c R Q A B hN hr hsz hA hmm hRm hQ hAe
  have hX : NXA sd A s := by rw [hAe, ← hsz]; exact hN
  unfold sX_isBoat at ho
  refine j_iload_n B eX0_isBoat_0 1 rfl ?_
  refine j_i2l B eX0_isBoat_1 ?_
  refine j_lconst (v := 0) B eX0_isBoat_2 rfl ?_
  refine j_aload_n B eX0_isBoat_3 0 rfl ?_
  refine gfX_3 B eX0_isBoat_4 ?_
  refine j_const B eX0_isBoat_7 ?_
  refine j_isub B eX0_isBoat_8 ?_
  refine j_i2l B eX0_isBoat_9 ?_
  refine j_callSi (As := [.long (Int32.toInt64 a1), .long (0 : Int64), .long (Int32.toInt64 ((w.2.1 90 3) - (1 : Int32)))]) B hA (met_X0_in l D _ _ _ (Int32.toInt64 a1) (0 : Int64) (Int32.toInt64 ((w.2.1 90 3) - (1 : Int32)))) NT_ok pkX0_in q224 rfl rfl hRm ⟨Nat.le_of_ble_eq_true rfl, Nat.le_of_ble_eq_true rfl⟩ rfl rfl (Nat.le_of_ble_eq_true rfl) ⟨Nat.zero_le _, Nat.zero_le _⟩ eX0_isBoat_10 ho (fun v1 ho => ?_)
  obtain ⟨hb, ho⟩ := gd_e ho
  exact j_zret B hr hb hQ eX0_isBoat_13 ho
def sX_isSeat (w : Wd) (a1 : Int32) (a2 : Int32) : Option (Int32) :=
  bd (sX_isBoat w a1) fun v1 => if v1 = 0 then (some (0 : Int32)) else (rd (inb a1 8 && decide (Int32.toNatClampNeg a1 < w.1 3)) (Int32.toNatClampNeg a1) fun k2 => gd (decide (k2 < w.1 0)) (bd (sB_seats w k2) fun v3 => bd (sX_in (Int32.toInt64 a2) (0 : Int64) (Int32.toInt64 (v3 - (1 : Int32)))) fun v4 => if v4 = 0 then (if a2 = (8 : Int32) then (rd (inb a1 8 && decide (Int32.toNatClampNeg a1 < w.1 3)) (Int32.toNatClampNeg a1) fun k5 => gd (decide (k5 < w.1 0)) (bd (sB_hasCox w k5) fun v6 => if v6 = 0 then (some (0 : Int32)) else (some (1 : Int32)))) else (some (0 : Int32))) else (some (1 : Int32))))
abbrev rmX0_isSeat : Room := { frames := 2, cells := 0, slots := 0, locals := 46 }
theorem pkX0_isSeat : PkV yX0_isSeat RX0 cX0_isSeat 3 (some .boolean) 2 := ⟨q335, qs2, q57, q336, by decide +kernel⟩
set_option maxHeartbeats 4000000 in
theorem met_X0_isSeat (l : Launch) (D : va_G) (g : Nat → ClassId) (ad sd : Nat → Nat) (w : Wd) (a1 : Int32) (a2 : Int32) (sz : Nat) (r : Int32) (ho : sX_isSeat w a1 a2 = some r) : Met l yX0_isSeat (ws_ yX0_isSeat cX0_isSeat 3 (some .boolean)) rmX0_isSeat (va_Pc [.ref (ad 99), .int a1, .int a2] (MPre D vwCl (tysG g) (cellsX g ad w) (NXX sd (cellsX g ad w)) sz)) (QcI D vwCl (tysG g) (cellsX g ad w) r (va_A (cellsX g ad w) sz)) 0 0 (va_A (cellsX g ad w) sz) := by
  refine met_XJ (cw := cellsX g ad) (w := w) (cc := cX0_isSeat) (lv := [(0, .ref (ad 99)), (1, .int a1), (2, .int a2)]) pnX0 _ (Nat.le_of_ble_eq_true rfl) rfl ?_
  intro p e s m args below meth c R Q A B hN hr hsz hA hmm hRm hQ hAe
  have hX : NXA sd A s := by rw [hAe, ← hsz]; exact hN
  unfold sX_isSeat at ho
  refine j_aload_n B eX0_isSeat_0 0 rfl ?_
  refine j_iload_n B eX0_isSeat_1 1 rfl ?_
  refine j_callVi (As := [.int a1]) B hA (met_X0_isBoat l D g ad sd w a1) (NXX_ok hX) pkX0_isBoat q337 0 rfl rfl rfl rfl hRm ⟨Nat.le_of_ble_eq_true rfl, Nat.le_of_ble_eq_true rfl⟩ rfl rfl (Nat.le_of_ble_eq_true rfl) ⟨Nat.zero_le _, Nat.zero_le _⟩ eX0_isSeat_2 ho (fun v1 ho => ?_)
  refine j_if_eq B eX0_isSeat_5 ho (fun _ ho => ?_) (fun _ ho => ?_)
  · refine j_const B eX0_isSeat_51 ?_
    exact j_zret B hr rfl hQ eX0_isSeat_52 ho
  · refine j_iload_n B eX0_isSeat_8 2 rfl ?_
    refine j_i2l B eX0_isSeat_9 ?_
    refine j_lconst (v := 0) B eX0_isSeat_10 rfl ?_
    refine j_aload_n B eX0_isSeat_11 0 rfl ?_
    refine gfX_1 B eX0_isSeat_12 ?_
    refine j_iload_n B eX0_isSeat_15 1 rfl ?_
    refine alX_1 B eX0_isSeat_16 ho (fun k2 ho => ?_)
    obtain ⟨hg, ho⟩ := gd_e ho
    refine j_callVi (As := []) B hA (met_X7_seats l D g ad sd w k2) (NXX_ok hX) pkX7_seats q341 _ (at_boat (of_decide_eq_true hg)) rfl rfl rfl hRm ⟨Nat.le_of_ble_eq_true rfl, Nat.le_of_ble_eq_true rfl⟩ rfl rfl (Nat.le_of_ble_eq_true rfl) ⟨Nat.zero_le _, Nat.zero_le _⟩ eX0_isSeat_17 ho (fun v3 ho => ?_)
    refine j_const B eX0_isSeat_20 ?_
    refine j_isub B eX0_isSeat_21 ?_
    refine j_i2l B eX0_isSeat_22 ?_
    refine j_callSi (As := [.long (Int32.toInt64 a2), .long (0 : Int64), .long (Int32.toInt64 (v3 - (1 : Int32)))]) B hA (met_X0_in l D _ _ _ (Int32.toInt64 a2) (0 : Int64) (Int32.toInt64 (v3 - (1 : Int32)))) NT_ok pkX0_in q224 rfl rfl hRm ⟨Nat.le_of_ble_eq_true rfl, Nat.le_of_ble_eq_true rfl⟩ rfl rfl (Nat.le_of_ble_eq_true rfl) ⟨Nat.zero_le _, Nat.zero_le _⟩ eX0_isSeat_23 ho (fun v4 ho => ?_)
    refine j_if_ne B eX0_isSeat_26 ho (fun _ ho => ?_) (fun _ ho => ?_)
    · refine j_const B eX0_isSeat_47 ?_
      refine j_goto B eX0_isSeat_48 ?_
      exact j_zret B hr rfl hQ eX0_isSeat_52 ho
    · refine j_iload_n B eX0_isSeat_29 2 rfl ?_
      refine j_const B eX0_isSeat_30 ?_
      refine j_icmp_ne B eX0_isSeat_32 ho (fun _ ho => ?_) (fun _ ho => ?_)
      · refine j_const B eX0_isSeat_51 ?_
        exact j_zret B hr rfl hQ eX0_isSeat_52 ho
      · refine j_aload_n B eX0_isSeat_35 0 rfl ?_
        refine gfX_1 B eX0_isSeat_36 ?_
        refine j_iload_n B eX0_isSeat_39 1 rfl ?_
        refine alX_1 B eX0_isSeat_40 ho (fun k5 ho => ?_)
        obtain ⟨hg, ho⟩ := gd_e ho
        refine j_callVi (As := []) B hA (met_X7_hasCox l D g ad sd w k5) (NXX_ok hX) pkX7_hasCox q345 _ (at_boat (of_decide_eq_true hg)) rfl rfl rfl hRm ⟨Nat.le_of_ble_eq_true rfl, Nat.le_of_ble_eq_true rfl⟩ rfl rfl (Nat.le_of_ble_eq_true rfl) ⟨Nat.zero_le _, Nat.zero_le _⟩ eX0_isSeat_41 ho (fun v6 ho => ?_)
        refine j_if_eq B eX0_isSeat_44 ho (fun _ ho => ?_) (fun _ ho => ?_)
        · refine j_const B eX0_isSeat_51 ?_
          exact j_zret B hr rfl hQ eX0_isSeat_52 ho
        · refine j_const B eX0_isSeat_47 ?_
          refine j_goto B eX0_isSeat_48 ?_
          exact j_zret B hr rfl hQ eX0_isSeat_52 ho
def sX_leaves_L2 (a1 : Int32) : Int32 → Wd → Option (Wd) :=
  fx (fun _ _ => none) (fun self4 x2 w3 =>
    if (w3.2.1 90 3) ≤ x2 then (some w3) else (rd (inb x2 8 && decide (Int32.toNatClampNeg x2 < w3.1 3)) (Int32.toNatClampNeg x2) fun k5 => gd (decide (k5 < w3.1 0)) (bd (sB_place w3 k5 a1) fun v6 => if v6 = (-1 : Int32) then (nm (x2 + (1 : Int32)) fun x7 => self4 x7 w3) else (rd (inb x2 8 && decide (Int32.toNatClampNeg x2 < w3.1 3)) (Int32.toNatClampNeg x2) fun k8 => gd (decide (k8 < w3.1 0)) (rd (inb x2 8 && decide (Int32.toNatClampNeg x2 < w3.1 3)) (Int32.toNatClampNeg x2) fun k9 => gd (decide (k9 < w3.1 0)) (bd (sB_place w3 k9 a1) fun v10 => rd (decide (k8 < w3.1 0) && inb v10 9) (stG w3 (101 + 10 * k8) (Int32.toNatClampNeg v10) (-1 : Int32)) fun w11 => nm (x2 + (1 : Int32)) fun x12 => self4 x12 w11)))))) FU
def sX_leaves (w : Wd) (a1 : Int32) : Option (Wd) :=
  nm (0 : Int32) fun x1 => sX_leaves_L2 a1 x1 w
abbrev rmX0_leaves : Room := { frames := 1, cells := 0, slots := 0, locals := 22 }
theorem pkX0_leaves : PkV yX0_leaves RX0 cX0_leaves 3 (none) 1 := ⟨q359, qs4, q57, q360, by decide +kernel⟩
set_option maxHeartbeats 4000000 in
theorem met_X0_leaves (l : Launch) (D : va_G) (g : Nat → ClassId) (ad sd : Nat → Nat) (w : Wd) (a1 : Int32) (sz : Nat) (w' : Wd) (ho : sX_leaves w a1 = some w') : Met l yX0_leaves (ws_ yX0_leaves cX0_leaves 3 (none)) rmX0_leaves (va_Pc [.ref (ad 99), .int a1] (MPre D vwCl (tysG g) (cellsX g ad w) (NXX sd (cellsX g ad w)) sz)) (QcV D vwCl (tysG g) (cellsX g ad w') (va_A (cellsX g ad w) sz)) 0 0 (va_A (cellsX g ad w) sz) := by
  refine met_XJ (cw := cellsX g ad) (w := w) (cc := cX0_leaves) (lv := [(0, .ref (ad 99)), (1, .int a1)]) pnX0 _ (Nat.le_of_ble_eq_true rfl) rfl ?_
  intro p e s m args below meth c R Q A B hN hr hsz hA hmm hRm hQ hAe
  have hX : NXA sd A s := by rw [hAe, ← hsz]; exact hN
  unfold sX_leaves at ho
  refine j_const B eX0_leaves_0 ?_
  refine j_istore_n (lv' := fun x1 => [(0, .ref (ad 99)), (1, .int a1), (2, .int x1)]) B eX0_leaves_1 [1, 2, 0] (by decide) (fun _ => rfl) ho (fun x1 ho => ?_)
  unfold sX_leaves_L2 at ho
  refine fx2 (C := fun x2 w3 => XJ p l e R s m args below meth c 0 0 Q A D vwCl (cellsX g ad) 3 w3 2 [(0, .ref (ad 99)), (1, .int a1), (2, .int x2)] []) (fun self4 hself4 x2 w3 ho => ?_) FU _ _ ho
  refine j_iload_n B eX0_leaves_2 2 rfl ?_
  refine j_aload_n B eX0_leaves_3 0 rfl ?_
  refine gfX_3 B eX0_leaves_4 ?_
  refine j_icmp_ge B eX0_leaves_7 ho (fun _ ho => ?_) (fun _ ho => ?_)
  · exact j_vretw B hr hQ eX0_leaves_51 ho
  · refine j_aload_n B eX0_leaves_10 0 rfl ?_
    refine gfX_1 B eX0_leaves_11 ?_
    refine j_iload_n B eX0_leaves_14 2 rfl ?_
    refine alX_1 B eX0_leaves_15 ho (fun k5 ho => ?_)
    refine j_iload_n B eX0_leaves_16 1 rfl ?_
    obtain ⟨hg, ho⟩ := gd_e ho
    refine j_callVi (As := [.int a1]) B hA (met_X7_place l D g ad sd w3 k5 a1) (NXX_ok hX) pkX7_place q361 _ (at_boat (of_decide_eq_true hg)) rfl rfl rfl hRm ⟨Nat.le_of_ble_eq_true rfl, Nat.le_of_ble_eq_true rfl⟩ rfl rfl (Nat.le_of_ble_eq_true rfl) ⟨Nat.zero_le _, Nat.zero_le _⟩ eX0_leaves_17 ho (fun v6 ho => ?_)
    refine j_const B eX0_leaves_20 ?_
    refine j_icmp_eq B eX0_leaves_21 ho (fun _ ho => ?_) (fun _ ho => ?_)
    · refine j_iinc (d := 1) (lv' := fun x7 => [(0, .ref (ad 99)), (1, .int a1), (2, .int x7)]) B eX0_leaves_45 2 rfl (by decide) [1, 2, 0] (by decide) (fun _ => rfl) ho (fun x7 ho => ?_)
      refine j_goto B eX0_leaves_48 ?_
      exact hself4 _ _ ho
    · refine j_aload_n B eX0_leaves_24 0 rfl ?_
      refine gfX_1 B eX0_leaves_25 ?_
      refine j_iload_n B eX0_leaves_28 2 rfl ?_
      refine alX_1 B eX0_leaves_29 ho (fun k8 ho => ?_)
      refine gfBNr (j := 4) B hX (by decide) nq306 rfl eX0_leaves_30 ho (fun ho => ?_)
      refine j_aload_n B eX0_leaves_33 0 rfl ?_
      refine gfX_1 B eX0_leaves_34 ?_
      refine j_iload_n B eX0_leaves_37 2 rfl ?_
      refine alX_1 B eX0_leaves_38 ho (fun k9 ho => ?_)
      refine j_iload_n B eX0_leaves_39 1 rfl ?_
      obtain ⟨hg, ho⟩ := gd_e ho
      refine j_callVi (As := [.int a1]) B hA (met_X7_place l D g ad sd w3 k9 a1) (NXX_ok hX) pkX7_place q361 _ (at_boat (of_decide_eq_true hg)) rfl rfl rfl hRm ⟨Nat.le_of_ble_eq_true rfl, Nat.le_of_ble_eq_true rfl⟩ rfl rfl (Nat.le_of_ble_eq_true rfl) ⟨Nat.zero_le _, Nat.zero_le _⟩ eX0_leaves_40 ho (fun v10 ho => ?_)
      refine j_const B eX0_leaves_43 ?_
      refine stC B eX0_leaves_44 ho (fun w11 ho => ?_)
      refine j_iinc (d := 1) (lv' := fun x12 => [(0, .ref (ad 99)), (1, .int a1), (2, .int x12)]) B eX0_leaves_45 2 rfl (by decide) [1, 2, 0] (by decide) (fun _ => rfl) ho (fun x12 ho => ?_)
      refine j_goto B eX0_leaves_48 ?_
      exact hself4 _ _ ho
def sX_sit (w : Wd) (a1 : Int32) (a2 : Int32) (a3 : Int32) : Option (Int32 × Wd) :=
  bd (sX_isSeat w a1 a2) fun v1 => if v1 = 0 then (some ((-5 : Int32), w)) else (jn (jn (rd (inb a1 8 && decide (Int32.toNatClampNeg a1 < w.1 3)) (Int32.toNatClampNeg a1) fun k4 => gd (decide (k4 < w.1 0)) (rd (decide (k4 < w.1 0) && inb a2 9) (w.2.1 (101 + 10 * k4) (Int32.toNatClampNeg a2)) fun v5 => nm v5 fun x6 => jn (fun w7 => rd (inb a1 8 && decide (Int32.toNatClampNeg a1 < w7.1 3)) (Int32.toNatClampNeg a1) fun k9 => gd (decide (k9 < w7.1 0)) (rd (decide (k9 < w7.1 0) && inb a2 9) (stG w7 (101 + 10 * k9) (Int32.toNatClampNeg a2) a3) fun w10 => some (x6, w10))) fun J8 => if a3 = (-1 : Int32) then (J8 w) else (bd (sX_leaves w a3) fun w11 => J8 w11))) fun J3 => if a3 = (-1 : Int32) then (J3) else (rd (inb a3 16 && decide (Int32.toNatClampNeg a3 < w.1 4)) (Int32.toNatClampNeg a3) fun k12 => rd (oOk w k12) (w.2.1 (102 + 10 * k12) 2) fun v13 => if v13 = 0 then (if a2 = (8 : Int32) then (rd (inb a3 16 && decide (Int32.toNatClampNeg a3 < w.1 4)) (Int32.toNatClampNeg a3) fun k14 => gd (oOk w k14) (bd (sO_mayCox w k14) fun v15 => if v15 = 0 then (some ((-3 : Int32), w)) else (J3))) else (J3)) else (some ((-3 : Int32), w)))) fun J2 => if a3 = (-1 : Int32) then (J2) else (bd (sX_isOar w a3) fun v16 => if v16 = 0 then (some ((-5 : Int32), w)) else (J2)))
abbrev rmX0_sit : Room := { frames := 3, cells := 0, slots := 0, locals := 68 }
theorem pkX0_sit : PkV yX0_sit RX0 cX0_sit 5 (some .int) 3 := ⟨q330, q331, q57, q332, by decide +kernel⟩
set_option maxHeartbeats 4000000 in
theorem met_X0_sit (l : Launch) (D : va_G) (g : Nat → ClassId) (ad sd : Nat → Nat) (w : Wd) (a1 : Int32) (a2 : Int32) (a3 : Int32) (sz : Nat) (r : Int32) (w' : Wd) (ho : sX_sit w a1 a2 a3 = some (r, w')) : Met l yX0_sit (ws_ yX0_sit cX0_sit 5 (some .int)) rmX0_sit (va_Pc [.ref (ad 99), .int a1, .int a2, .int a3] (MPre D vwCl (tysG g) (cellsX g ad w) (NXX sd (cellsX g ad w)) sz)) (QcI D vwCl (tysG g) (cellsX g ad w') r (va_A (cellsX g ad w) sz)) 0 0 (va_A (cellsX g ad w) sz) := by
  refine met_XJ (cw := cellsX g ad) (w := w) (cc := cX0_sit) (lv := [(0, .ref (ad 99)), (1, .int a1), (2, .int a2), (3, .int a3)]) pnX0 _ (Nat.le_of_ble_eq_true rfl) rfl ?_
  intro p e s m args below meth c R Q A B hN hr hsz hA hmm hRm hQ hAe
  have hX : NXA sd A s := by rw [hAe, ← hsz]; exact hN
  unfold sX_sit at ho
  refine j_aload_n B eX0_sit_0 0 rfl ?_
  refine j_iload_n B eX0_sit_1 1 rfl ?_
  refine j_iload_n B eX0_sit_2 2 rfl ?_
  refine j_callVi (As := [.int a1, .int a2]) B hA (met_X0_isSeat l D g ad sd w a1 a2) (NXX_ok hX) pkX0_isSeat q333 0 rfl rfl rfl rfl hRm ⟨Nat.le_of_ble_eq_true rfl, Nat.le_of_ble_eq_true rfl⟩ rfl rfl (Nat.le_of_ble_eq_true rfl) ⟨Nat.zero_le _, Nat.zero_le _⟩ eX0_sit_3 ho (fun v1 ho => ?_)
  refine j_if_eq B eX0_sit_6 ho (fun _ ho => ?_) (fun _ ho => ?_)
  · refine j_const B eX0_sit_22 ?_
    exact j_iretw B hr hQ eX0_sit_24 ho
  · refine j_iload_n B eX0_sit_9 3 rfl ?_
    refine j_const B eX0_sit_10 ?_
    refine jn0 (C := XJ p l e R s m args below meth c 0 0 Q A D vwCl (cellsX g ad) 5 w 25 [(0, .ref (ad 99)), (1, .int a1), (2, .int a2), (3, .int a3)] []) ho (fun ho => ?_) (fun J2 hJ2 ho => ?_)
    · refine j_iload_n B eX0_sit_25 3 rfl ?_
      refine j_const B eX0_sit_26 ?_
      refine jn0 (C := XJ p l e R s m args below meth c 0 0 Q A D vwCl (cellsX g ad) 5 w 63 [(0, .ref (ad 99)), (1, .int a1), (2, .int a2), (3, .int a3)] []) ho (fun ho => ?_) (fun J3 hJ3 ho => ?_)
      · refine j_aload_n B eX0_sit_63 0 rfl ?_
        refine gfX_1 B eX0_sit_64 ?_
        refine j_iload_n B eX0_sit_67 1 rfl ?_
        refine alX_1 B eX0_sit_68 ho (fun k4 ho => ?_)
        refine gfBNr (j := 4) B hX (by decide) nq306 rfl eX0_sit_69 ho (fun ho => ?_)
        refine j_iload_n B eX0_sit_72 2 rfl ?_
        refine ldC B eX0_sit_73 ho (fun v5 ho => ?_)
        refine j_istore (lv' := fun x6 => [(0, .ref (ad 99)), (1, .int a1), (2, .int a2), (3, .int a3), (4, .int x6)]) B eX0_sit_74 [1, 2, 3, 4, 0] (by decide) (fun _ => rfl) ho (fun x6 ho => ?_)
        refine j_iload_n B eX0_sit_76 3 rfl ?_
        refine j_const B eX0_sit_77 ?_
        refine jn1 (C := fun w7 => XJ p l e R s m args below meth c 0 0 Q A D vwCl (cellsX g ad) 5 w7 86 [(0, .ref (ad 99)), (1, .int a1), (2, .int a2), (3, .int a3), (4, .int x6)] []) ho (fun w7 ho => ?_) (fun J8 hJ8 ho => ?_)
        · refine j_aload_n B eX0_sit_86 0 rfl ?_
          refine gfX_1 B eX0_sit_87 ?_
          refine j_iload_n B eX0_sit_90 1 rfl ?_
          refine alX_1 B eX0_sit_91 ho (fun k9 ho => ?_)
          refine gfBNr (j := 4) B hX (by decide) nq306 rfl eX0_sit_92 ho (fun ho => ?_)
          refine j_iload_n B eX0_sit_95 2 rfl ?_
          refine j_iload_n B eX0_sit_96 3 rfl ?_
          refine stC B eX0_sit_97 ho (fun w10 ho => ?_)
          refine j_iload B eX0_sit_98 4 rfl ?_
          exact j_iretw B hr hQ eX0_sit_100 ho
        · refine j_icmp_eq B eX0_sit_78 ho (fun _ ho => ?_) (fun _ ho => ?_)
          · exact hJ8 _ ho
          · refine j_aload_n B eX0_sit_81 0 rfl ?_
            refine j_iload_n B eX0_sit_82 3 rfl ?_
            refine j_callVvw (As := [.int a3]) B hA (met_X0_leaves l D g ad sd w a3) (NXX_ok hX) pkX0_leaves q357 0 rfl rfl rfl rfl hRm ⟨Nat.le_of_ble_eq_true rfl, Nat.le_of_ble_eq_true rfl⟩ rfl rfl (Nat.le_of_ble_eq_true rfl) ⟨Nat.zero_le _, Nat.zero_le _⟩ eX0_sit_83 ho (fun w11 ho => ?_)
            exact hJ8 _ ho
      · refine j_icmp_eq B eX0_sit_27 ho (fun _ ho => ?_) (fun _ ho => ?_)
        · exact hJ3 ho
        · refine j_aload_n B eX0_sit_30 0 rfl ?_
          refine gfX_0 B eX0_sit_31 ?_
          refine j_iload_n B eX0_sit_34 3 rfl ?_
          refine alX_0 B eX0_sit_35 ho (fun k12 ho => ?_)
          refine gfO_2 B q246 eX0_sit_36 ho (fun v13 ho => ?_)
          refine j_if_ne B eX0_sit_39 ho (fun _ ho => ?_) (fun _ ho => ?_)
          · refine j_const B eX0_sit_60 ?_
            exact j_iretw B hr hQ eX0_sit_62 ho
          · refine j_iload_n B eX0_sit_42 2 rfl ?_
            refine j_const B eX0_sit_43 ?_
            refine j_icmp_ne B eX0_sit_45 ho (fun _ ho => ?_) (fun _ ho => ?_)
            · exact hJ3 ho
            · refine j_aload_n B eX0_sit_48 0 rfl ?_
              refine gfX_0 B eX0_sit_49 ?_
              refine j_iload_n B eX0_sit_52 3 rfl ?_
              refine alX_0 B eX0_sit_53 ho (fun k14 ho => ?_)
              refine cO_mayCox B hA hX hRm ⟨Nat.le_of_ble_eq_true rfl, Nat.le_of_ble_eq_true rfl⟩ (Nat.le_of_ble_eq_true rfl) ⟨Nat.zero_le _, Nat.zero_le _⟩ eX0_sit_54 ho (fun v15 ho => ?_)
              refine j_if_ne B eX0_sit_57 ho (fun _ ho => ?_) (fun _ ho => ?_)
              · exact hJ3 ho
              · refine j_const B eX0_sit_60 ?_
                exact j_iretw B hr hQ eX0_sit_62 ho
    · refine j_icmp_eq B eX0_sit_11 ho (fun _ ho => ?_) (fun _ ho => ?_)
      · exact hJ2 ho
      · refine j_aload_n B eX0_sit_14 0 rfl ?_
        refine j_iload_n B eX0_sit_15 3 rfl ?_
        refine j_callVi (As := [.int a3]) B hA (met_X0_isOar l D g ad sd w a3) (NXX_ok hX) pkX0_isOar q325 0 rfl rfl rfl rfl hRm ⟨Nat.le_of_ble_eq_true rfl, Nat.le_of_ble_eq_true rfl⟩ rfl rfl (Nat.le_of_ble_eq_true rfl) ⟨Nat.zero_le _, Nat.zero_le _⟩ eX0_sit_16 ho (fun v16 ho => ?_)
        refine j_if_ne B eX0_sit_19 ho (fun _ ho => ?_) (fun _ ho => ?_)
        · exact hJ2 ho
        · refine j_const B eX0_sit_22 ?_
          exact j_iretw B hr hQ eX0_sit_24 ho
def sX_seat (w : Wd) (a1 : Int32) (a2 : Int32) : Option (Int32) :=
  bd (sX_isSeat w a1 a2) fun v1 => if v1 = 0 then (some (-1 : Int32)) else (rd (inb a1 8 && decide (Int32.toNatClampNeg a1 < w.1 3)) (Int32.toNatClampNeg a1) fun k2 => gd (decide (k2 < w.1 0)) (rd (decide (k2 < w.1 0) && inb a2 9) (w.2.1 (101 + 10 * k2) (Int32.toNatClampNeg a2)) fun v3 => some v3))
abbrev rmX0_seat : Room := { frames := 3, cells := 0, slots := 0, locals := 68 }
theorem pkX0_seat : PkV yX0_seat RX0 cX0_seat 3 (some .int) 2 := ⟨q366, q367, q57, q368, by decide +kernel⟩
set_option maxHeartbeats 4000000 in
theorem met_X0_seat (l : Launch) (D : va_G) (g : Nat → ClassId) (ad sd : Nat → Nat) (w : Wd) (a1 : Int32) (a2 : Int32) (sz : Nat) (r : Int32) (ho : sX_seat w a1 a2 = some r) : Met l yX0_seat (ws_ yX0_seat cX0_seat 3 (some .int)) rmX0_seat (va_Pc [.ref (ad 99), .int a1, .int a2] (MPre D vwCl (tysG g) (cellsX g ad w) (NXX sd (cellsX g ad w)) sz)) (QcI D vwCl (tysG g) (cellsX g ad w) r (va_A (cellsX g ad w) sz)) 0 0 (va_A (cellsX g ad w) sz) := by
  refine met_XJ (cw := cellsX g ad) (w := w) (cc := cX0_seat) (lv := [(0, .ref (ad 99)), (1, .int a1), (2, .int a2)]) pnX0 _ (Nat.le_of_ble_eq_true rfl) rfl ?_
  intro p e s m args below meth c R Q A B hN hr hsz hA hmm hRm hQ hAe
  have hX : NXA sd A s := by rw [hAe, ← hsz]; exact hN
  unfold sX_seat at ho
  refine j_aload_n B eX0_seat_0 0 rfl ?_
  refine j_iload_n B eX0_seat_1 1 rfl ?_
  refine j_iload_n B eX0_seat_2 2 rfl ?_
  refine j_callVi (As := [.int a1, .int a2]) B hA (met_X0_isSeat l D g ad sd w a1 a2) (NXX_ok hX) pkX0_isSeat q333 0 rfl rfl rfl rfl hRm ⟨Nat.le_of_ble_eq_true rfl, Nat.le_of_ble_eq_true rfl⟩ rfl rfl (Nat.le_of_ble_eq_true rfl) ⟨Nat.zero_le _, Nat.zero_le _⟩ eX0_seat_3 ho (fun v1 ho => ?_)
  refine j_if_eq B eX0_seat_6 ho (fun _ ho => ?_) (fun _ ho => ?_)
  · refine j_const B eX0_seat_23 ?_
    exact j_iret B hr hQ eX0_seat_24 ho
  · refine j_aload_n B eX0_seat_9 0 rfl ?_
    refine gfX_1 B eX0_seat_10 ?_
    refine j_iload_n B eX0_seat_13 1 rfl ?_
    refine alX_1 B eX0_seat_14 ho (fun k2 ho => ?_)
    refine gfBNr (j := 4) B hX (by decide) nq306 rfl eX0_seat_15 ho (fun ho => ?_)
    refine j_iload_n B eX0_seat_18 2 rfl ?_
    refine ldC B eX0_seat_19 ho (fun v3 ho => ?_)
    refine j_goto B eX0_seat_20 ?_
    exact j_iret B hr hQ eX0_seat_24 ho
def sX_about_L80 (w : Wd) (a1 : Int32) (J10 : Int32 → Option (Int32)) : Int32 → Option (Int32) :=
  fx (fun _ => none) (fun self14 x13 =>
    if (w.2.1 90 3) ≤ x13 then (some (-1 : Int32)) else (rd (inb x13 8 && decide (Int32.toNatClampNeg x13 < w.1 3)) (Int32.toNatClampNeg x13) fun k15 => gd (decide (k15 < w.1 0)) (bd (sB_place w k15 a1) fun v16 => if v16 = (-1 : Int32) then (nm (x13 + (1 : Int32)) fun x17 => self14 x17) else (J10 x13)))) FU
def sX_about (w : Wd) (a1 : Int32) (a2 : Int32) : Option (Int32) :=
  bd (sX_isOar w a1) fun v1 => if v1 = 0 then (some (-1 : Int32)) else (if a2 = (0 : Int32) then (rd (inb a1 16 && decide (Int32.toNatClampNeg a1 < w.1 4)) (Int32.toNatClampNeg a1) fun k2 => gd (oOk w k2) (bd (sO_kind w k2) fun v3 => some v3)) else (if a2 = (1 : Int32) then (rd (inb a1 16 && decide (Int32.toNatClampNeg a1 < w.1 4)) (Int32.toNatClampNeg a1) fun k4 => rd (oOk w k4) (w.2.1 (102 + 10 * k4) 1) fun v5 => some v5) else (if a2 = (2 : Int32) then (rd (inb a1 16 && decide (Int32.toNatClampNeg a1 < w.1 4)) (Int32.toNatClampNeg a1) fun k6 => rd (oOk w k6) (w.2.1 (102 + 10 * k6) 2) fun v7 => if v7 = 0 then (some (0 : Int32)) else (some (1 : Int32))) else (if a2 = (3 : Int32) then (nm (0 : Int32) fun x8 => jn (fun x9 => rd (inb x9 8 && decide (Int32.toNatClampNeg x9 < w.1 3)) (Int32.toNatClampNeg x9) fun k11 => gd (decide (k11 < w.1 0)) (bd (sB_place w k11 a1) fun v12 => some (((10 : Int32) * x9) + v12))) fun J10 => sX_about_L80 w a1 J10 x8) else (some (-1 : Int32))))))
abbrev rmX0_about : Room := { frames := 2, cells := 0, slots := 0, locals := 46 }
theorem pkX0_about : PkV yX0_about RX0 cX0_about 4 (some .int) 2 := ⟨q370, q371, q57, q372, by decide +kernel⟩
set_option maxHeartbeats 4000000 in
theorem met_X0_about (l : Launch) (D : va_G) (g : Nat → ClassId) (ad sd : Nat → Nat) (w : Wd) (a1 : Int32) (a2 : Int32) (sz : Nat) (r : Int32) (ho : sX_about w a1 a2 = some r) : Met l yX0_about (ws_ yX0_about cX0_about 4 (some .int)) rmX0_about (va_Pc [.ref (ad 99), .int a1, .int a2] (MPre D vwCl (tysG g) (cellsX g ad w) (NXX sd (cellsX g ad w)) sz)) (QcI D vwCl (tysG g) (cellsX g ad w) r (va_A (cellsX g ad w) sz)) 0 0 (va_A (cellsX g ad w) sz) := by
  refine met_XJ (cw := cellsX g ad) (w := w) (cc := cX0_about) (lv := [(0, .ref (ad 99)), (1, .int a1), (2, .int a2)]) pnX0 _ (Nat.le_of_ble_eq_true rfl) rfl ?_
  intro p e s m args below meth c R Q A B hN hr hsz hA hmm hRm hQ hAe
  have hX : NXA sd A s := by rw [hAe, ← hsz]; exact hN
  unfold sX_about at ho
  refine j_aload_n B eX0_about_0 0 rfl ?_
  refine j_iload_n B eX0_about_1 1 rfl ?_
  refine j_callVi (As := [.int a1]) B hA (met_X0_isOar l D g ad sd w a1) (NXX_ok hX) pkX0_isOar q325 0 rfl rfl rfl rfl hRm ⟨Nat.le_of_ble_eq_true rfl, Nat.le_of_ble_eq_true rfl⟩ rfl rfl (Nat.le_of_ble_eq_true rfl) ⟨Nat.zero_le _, Nat.zero_le _⟩ eX0_about_2 ho (fun v1 ho => ?_)
  refine j_if_ne B eX0_about_5 ho (fun _ ho => ?_) (fun _ ho => ?_)
  · refine j_iload_n B eX0_about_10 2 rfl ?_
    rcases sw_e ho with ⟨hs0, ho⟩ | ⟨hs0, ho⟩
    · refine j_tswIn (tgt := 40) B eX0_about_11 0 hs0 (by decide) (by decide) rfl (by decide) ?_
      refine j_aload_n B eX0_about_40 0 rfl ?_
      refine gfX_0 B eX0_about_41 ?_
      refine j_iload_n B eX0_about_44 1 rfl ?_
      refine alX_0 B eX0_about_45 ho (fun k2 ho => ?_)
      refine cO_kind B hA hX hRm ⟨Nat.le_of_ble_eq_true rfl, Nat.le_of_ble_eq_true rfl⟩ (Nat.le_of_ble_eq_true rfl) ⟨Nat.zero_le _, Nat.zero_le _⟩ eX0_about_46 ho (fun v3 ho => ?_)
      exact j_iret B hr hQ eX0_about_49 ho
    · rcases sw_e ho with ⟨hs1, ho⟩ | ⟨hs1, ho⟩
      · refine j_tswIn (tgt := 50) B eX0_about_11 1 hs1 (by decide) (by decide) rfl (by decide) ?_
        refine j_aload_n B eX0_about_50 0 rfl ?_
        refine gfX_0 B eX0_about_51 ?_
        refine j_iload_n B eX0_about_54 1 rfl ?_
        refine alX_0 B eX0_about_55 ho (fun k4 ho => ?_)
        refine gfO_1 B q244 eX0_about_56 ho (fun v5 ho => ?_)
        exact j_iret B hr hQ eX0_about_59 ho
      · rcases sw_e ho with ⟨hs2, ho⟩ | ⟨hs2, ho⟩
        · refine j_tswIn (tgt := 60) B eX0_about_11 2 hs2 (by decide) (by decide) rfl (by decide) ?_
          refine j_aload_n B eX0_about_60 0 rfl ?_
          refine gfX_0 B eX0_about_61 ?_
          refine j_iload_n B eX0_about_64 1 rfl ?_
          refine alX_0 B eX0_about_65 ho (fun k6 ho => ?_)
          refine gfO_2 B q246 eX0_about_66 ho (fun v7 ho => ?_)
          refine j_if_eq B eX0_about_69 ho (fun _ ho => ?_) (fun _ ho => ?_)
          · refine j_const B eX0_about_76 ?_
            exact j_iret B hr hQ eX0_about_77 ho
          · refine j_const B eX0_about_72 ?_
            refine j_goto B eX0_about_73 ?_
            exact j_iret B hr hQ eX0_about_77 ho
        · rcases sw_e ho with ⟨hs3, ho⟩ | ⟨hs3, ho⟩
          · refine j_tswIn (tgt := 78) B eX0_about_11 3 hs3 (by decide) (by decide) rfl (by decide) ?_
            refine j_const B eX0_about_78 ?_
            refine j_istore_n (lv' := fun x8 => [(0, .ref (ad 99)), (1, .int a1), (3, .int x8)]) B eX0_about_79 [1, 2, 0] (by decide) (fun _ => rfl) ho (fun x8 ho => ?_)
            refine jn1 (C := fun x9 => XJ p l e R s m args below meth c 0 0 Q A D vwCl (cellsX g ad) 4 w 102 [(0, .ref (ad 99)), (1, .int a1), (3, .int x9)] []) ho (fun x9 ho => ?_) (fun J10 hJ10 ho => ?_)
            · refine j_const B eX0_about_102 ?_
              refine j_iload_n B eX0_about_104 2 rfl ?_
              refine j_imul B eX0_about_105 ?_
              refine j_aload_n B eX0_about_106 0 rfl ?_
              refine gfX_1 B eX0_about_107 ?_
              refine j_iload_n B eX0_about_110 2 rfl ?_
              refine alX_1 B eX0_about_111 ho (fun k11 ho => ?_)
              refine j_iload_n B eX0_about_112 1 rfl ?_
              obtain ⟨hg, ho⟩ := gd_e ho
              refine j_callVi (As := [.int a1]) B hA (met_X7_place l D g ad sd w k11 a1) (NXX_ok hX) pkX7_place q361 _ (at_boat (of_decide_eq_true hg)) rfl rfl rfl hRm ⟨Nat.le_of_ble_eq_true rfl, Nat.le_of_ble_eq_true rfl⟩ rfl rfl (Nat.le_of_ble_eq_true rfl) ⟨Nat.zero_le _, Nat.zero_le _⟩ eX0_about_113 ho (fun v12 ho => ?_)
              refine j_iadd B eX0_about_116 ?_
              exact j_iret B hr hQ eX0_about_117 ho
            · unfold sX_about_L80 at ho
              refine fx1 (C := fun x13 => XJ p l e R s m args below meth c 0 0 Q A D vwCl (cellsX g ad) 4 w 80 [(0, .ref (ad 99)), (1, .int a1), (3, .int x13)] []) (fun self14 hself14 x13 ho => ?_) FU _ ho
              refine j_iload_n B eX0_about_80 2 rfl ?_
              refine j_aload_n B eX0_about_81 0 rfl ?_
              refine gfX_3 B eX0_about_82 ?_
              refine j_icmp_ge B eX0_about_85 ho (fun _ ho => ?_) (fun _ ho => ?_)
              · refine j_const B eX0_about_124 ?_
                exact j_iret B hr hQ eX0_about_125 ho
              · refine j_aload_n B eX0_about_88 0 rfl ?_
                refine gfX_1 B eX0_about_89 ?_
                refine j_iload_n B eX0_about_92 2 rfl ?_
                refine alX_1 B eX0_about_93 ho (fun k15 ho => ?_)
                refine j_iload_n B eX0_about_94 1 rfl ?_
                obtain ⟨hg, ho⟩ := gd_e ho
                refine j_callVi (As := [.int a1]) B hA (met_X7_place l D g ad sd w k15 a1) (NXX_ok hX) pkX7_place q361 _ (at_boat (of_decide_eq_true hg)) rfl rfl rfl hRm ⟨Nat.le_of_ble_eq_true rfl, Nat.le_of_ble_eq_true rfl⟩ rfl rfl (Nat.le_of_ble_eq_true rfl) ⟨Nat.zero_le _, Nat.zero_le _⟩ eX0_about_95 ho (fun v16 ho => ?_)
                refine j_const B eX0_about_98 ?_
                refine j_icmp_eq B eX0_about_99 ho (fun _ ho => ?_) (fun _ ho => ?_)
                · refine j_iinc (d := 1) (lv' := fun x17 => [(0, .ref (ad 99)), (1, .int a1), (3, .int x17)]) B eX0_about_118 2 rfl (by decide) [1, 2, 0] (by decide) (fun _ => rfl) ho (fun x17 ho => ?_)
                  refine j_goto B eX0_about_121 ?_
                  exact hself14 _ ho
                · exact hJ10 _ ho
          · refine j_tswOut (tgt := 126) B eX0_about_11 (by have a0 := lv_neT hs0 (a := 0) (by decide); have a1 := lv_neT hs1 (a := 1) (by decide); have a2 := lv_neT hs2 (a := 2) (by decide); have a3 := lv_neT hs3 (a := 3) (by decide); omega) (by decide) ?_
            refine j_const B eX0_about_126 ?_
            exact j_iret B hr hQ eX0_about_127 ho
  · refine j_const B eX0_about_8 ?_
    exact j_iret B hr hQ eX0_about_9 ho
def sX_race (w : Wd) (a1 : Int32) (a2 : Int32) (a3 : Int32) : Option (Int32 × Wd) :=
  bd (sX_isOar w a1) fun v1 => if v1 = 0 then (some ((-1 : Int32), w)) else (bd (sX_isOar w a2) fun v2 => if v2 = 0 then (some ((-1 : Int32), w)) else (if a1 = a2 then (some ((-2 : Int32), w)) else (bd (sX_in (Int32.toInt64 a3) (-999 : Int64) (999 : Int64)) fun v3 => if v3 = 0 then (some ((-2 : Int32), w)) else (if (w.2.1 90 10) = (40 : Int32) then (some ((-4 : Int32), w)) else (rd (inb (w.2.1 90 10) 40) (stG w 5 (Int32.toNatClampNeg (w.2.1 90 10)) a1) fun w4 => rd (inb (w4.2.1 90 10) 40) (stG w4 6 (Int32.toNatClampNeg (w4.2.1 90 10)) a2) fun w5 => rd (inb (w5.2.1 90 10) 40) (stG w5 7 (Int32.toNatClampNeg (w5.2.1 90 10)) a3) fun w6 => nm (stG w6 90 10 ((w6.2.1 90 10) + (1 : Int32))) fun w7 => some ((w7.2.1 90 10), w7))))))
abbrev rmX0_race : Room := { frames := 2, cells := 0, slots := 0, locals := 46 }
theorem pkX0_race : PkV yX0_race RX0 cX0_race 4 (some .int) 3 := ⟨q391, q392, q57, q393, by decide +kernel⟩
set_option maxHeartbeats 4000000 in
theorem met_X0_race (l : Launch) (D : va_G) (g : Nat → ClassId) (ad sd : Nat → Nat) (w : Wd) (a1 : Int32) (a2 : Int32) (a3 : Int32) (sz : Nat) (r : Int32) (w' : Wd) (ho : sX_race w a1 a2 a3 = some (r, w')) : Met l yX0_race (ws_ yX0_race cX0_race 4 (some .int)) rmX0_race (va_Pc [.ref (ad 99), .int a1, .int a2, .int a3] (MPre D vwCl (tysG g) (cellsX g ad w) (NXX sd (cellsX g ad w)) sz)) (QcI D vwCl (tysG g) (cellsX g ad w') r (va_A (cellsX g ad w) sz)) 0 0 (va_A (cellsX g ad w) sz) := by
  refine met_XJ (cw := cellsX g ad) (w := w) (cc := cX0_race) (lv := [(0, .ref (ad 99)), (1, .int a1), (2, .int a2), (3, .int a3)]) pnX0 _ (Nat.le_of_ble_eq_true rfl) rfl ?_
  intro p e s m args below meth c R Q A B hN hr hsz hA hmm hRm hQ hAe
  have hX : NXA sd A s := by rw [hAe, ← hsz]; exact hN
  unfold sX_race at ho
  refine j_aload_n B eX0_race_0 0 rfl ?_
  refine j_iload_n B eX0_race_1 1 rfl ?_
  refine j_callVi (As := [.int a1]) B hA (met_X0_isOar l D g ad sd w a1) (NXX_ok hX) pkX0_isOar q325 0 rfl rfl rfl rfl hRm ⟨Nat.le_of_ble_eq_true rfl, Nat.le_of_ble_eq_true rfl⟩ rfl rfl (Nat.le_of_ble_eq_true rfl) ⟨Nat.zero_le _, Nat.zero_le _⟩ eX0_race_2 ho (fun v1 ho => ?_)
  refine j_if_eq B eX0_race_5 ho (fun _ ho => ?_) (fun _ ho => ?_)
  · refine j_const B eX0_race_16 ?_
    exact j_iretw B hr hQ eX0_race_17 ho
  · refine j_aload_n B eX0_race_8 0 rfl ?_
    refine j_iload_n B eX0_race_9 2 rfl ?_
    refine j_callVi (As := [.int a2]) B hA (met_X0_isOar l D g ad sd w a2) (NXX_ok hX) pkX0_isOar q325 0 rfl rfl rfl rfl hRm ⟨Nat.le_of_ble_eq_true rfl, Nat.le_of_ble_eq_true rfl⟩ rfl rfl (Nat.le_of_ble_eq_true rfl) ⟨Nat.zero_le _, Nat.zero_le _⟩ eX0_race_10 ho (fun v2 ho => ?_)
    refine j_if_ne B eX0_race_13 ho (fun _ ho => ?_) (fun _ ho => ?_)
    · refine j_iload_n B eX0_race_18 1 rfl ?_
      refine j_iload_n B eX0_race_19 2 rfl ?_
      refine j_icmp_eq B eX0_race_20 ho (fun _ ho => ?_) (fun _ ho => ?_)
      · refine j_const B eX0_race_37 ?_
        exact j_iretw B hr hQ eX0_race_39 ho
      · refine j_iload_n B eX0_race_23 3 rfl ?_
        refine j_i2l B eX0_race_24 ?_
        refine j_ldc2 B eX0_race_25 q394 ?_
        refine j_ldc2 B eX0_race_28 q395 ?_
        refine j_callSi (As := [.long (Int32.toInt64 a3), .long (-999 : Int64), .long (999 : Int64)]) B hA (met_X0_in l D _ _ _ (Int32.toInt64 a3) (-999 : Int64) (999 : Int64)) NT_ok pkX0_in q224 rfl rfl hRm ⟨Nat.le_of_ble_eq_true rfl, Nat.le_of_ble_eq_true rfl⟩ rfl rfl (Nat.le_of_ble_eq_true rfl) ⟨Nat.zero_le _, Nat.zero_le _⟩ eX0_race_31 ho (fun v3 ho => ?_)
        refine j_if_ne B eX0_race_34 ho (fun _ ho => ?_) (fun _ ho => ?_)
        · refine j_aload_n B eX0_race_40 0 rfl ?_
          refine gfX_10 B eX0_race_41 ?_
          refine j_const B eX0_race_44 ?_
          refine j_icmp_ne B eX0_race_46 ho (fun _ ho => ?_) (fun _ ho => ?_)
          · refine j_aload_n B eX0_race_52 0 rfl ?_
            refine gfX_5 B eX0_race_53 ?_
            refine j_aload_n B eX0_race_56 0 rfl ?_
            refine gfX_10 B eX0_race_57 ?_
            refine j_iload_n B eX0_race_60 1 rfl ?_
            refine stX_5 B eX0_race_61 ho (fun w4 ho => ?_)
            refine j_aload_n B eX0_race_62 0 rfl ?_
            refine gfX_6 B eX0_race_63 ?_
            refine j_aload_n B eX0_race_66 0 rfl ?_
            refine gfX_10 B eX0_race_67 ?_
            refine j_iload_n B eX0_race_70 2 rfl ?_
            refine stX_6 B eX0_race_71 ho (fun w5 ho => ?_)
            refine j_aload_n B eX0_race_72 0 rfl ?_
            refine gfX_7 B eX0_race_73 ?_
            refine j_aload_n B eX0_race_76 0 rfl ?_
            refine gfX_10 B eX0_race_77 ?_
            refine j_iload_n B eX0_race_80 3 rfl ?_
            refine stX_7 B eX0_race_81 ho (fun w6 ho => ?_)
            refine j_aload_n B eX0_race_82 0 rfl ?_
            refine j_dup B eX0_race_83 rfl ?_
            refine gfX_10 B eX0_race_84 ?_
            refine j_const B eX0_race_87 ?_
            refine j_iadd B eX0_race_88 ?_
            refine pfX_10 B eX0_race_89 ho (fun w7 ho => ?_)
            refine j_aload_n B eX0_race_92 0 rfl ?_
            refine gfX_10 B eX0_race_93 ?_
            exact j_iretw B hr hQ eX0_race_96 ho
          · refine j_const B eX0_race_49 ?_
            exact j_iretw B hr hQ eX0_race_51 ho
        · refine j_const B eX0_race_37 ?_
          exact j_iretw B hr hQ eX0_race_39 ho
    · refine j_const B eX0_race_16 ?_
      exact j_iretw B hr hQ eX0_race_17 ho
def sX_unrace (w : Wd)  : Option (Int32 × Wd) :=
  if (w.2.1 90 10) = 0 then (some ((-3 : Int32), w)) else (nm (stG w 90 10 ((w.2.1 90 10) - (1 : Int32))) fun w1 => some ((w1.2.1 90 10), w1))
abbrev rmX0_unrace : Room := { frames := 0, cells := 0, slots := 0, locals := 0 }
theorem pkX0_unrace : PkV yX0_unrace RX0 cX0_unrace 1 (some .int) 0 := ⟨q397, q398, q57, q399, by decide +kernel⟩
set_option maxHeartbeats 4000000 in
theorem met_X0_unrace (l : Launch) (D : va_G) (g : Nat → ClassId) (ad sd : Nat → Nat) (w : Wd)  (sz : Nat) (r : Int32) (w' : Wd) (ho : sX_unrace w = some (r, w')) : Met l yX0_unrace (ws_ yX0_unrace cX0_unrace 1 (some .int)) rmX0_unrace (va_Pc [.ref (ad 99)] (MPre D vwCl (tysG g) (cellsX g ad w) (NXX sd (cellsX g ad w)) sz)) (QcI D vwCl (tysG g) (cellsX g ad w') r (va_A (cellsX g ad w) sz)) 0 0 (va_A (cellsX g ad w) sz) := by
  refine met_XJ (cw := cellsX g ad) (w := w) (cc := cX0_unrace) (lv := [(0, .ref (ad 99))]) pnX0 _ (Nat.le_of_ble_eq_true rfl) rfl ?_
  intro p e s m args below meth c R Q A B hN hr hsz hA hmm hRm hQ hAe
  have hX : NXA sd A s := by rw [hAe, ← hsz]; exact hN
  unfold sX_unrace at ho
  refine j_aload_n B eX0_unrace_0 0 rfl ?_
  refine gfX_10 B eX0_unrace_1 ?_
  refine j_if_ne B eX0_unrace_4 ho (fun _ ho => ?_) (fun _ ho => ?_)
  · refine j_aload_n B eX0_unrace_10 0 rfl ?_
    refine j_dup B eX0_unrace_11 rfl ?_
    refine gfX_10 B eX0_unrace_12 ?_
    refine j_const B eX0_unrace_15 ?_
    refine j_isub B eX0_unrace_16 ?_
    refine pfX_10 B eX0_unrace_17 ho (fun w1 ho => ?_)
    refine j_aload_n B eX0_unrace_20 0 rfl ?_
    refine gfX_10 B eX0_unrace_21 ?_
    exact j_iretw B hr hQ eX0_unrace_24 ho
  · refine j_const B eX0_unrace_7 ?_
    exact j_iretw B hr hQ eX0_unrace_9 ho
def sX_findParts_L33 (self7 : Int32 → Wd → Option (Wd)) : Int32 → Int32 → Wd → Option (Wd) :=
  fx (fun _ _ _ => none) (fun self13 x10 x11 w12 =>
    if (w12.2.1 90 10) ≤ x11 then (self7 x10 w12) else (rd (inb x11 40) (w12.2.1 5 (Int32.toNatClampNeg x11)) fun v14 => rd (inb v14 16) (w12.2.1 8 (Int32.toNatClampNeg v14)) fun v15 => rd (inb x11 40) (w12.2.1 6 (Int32.toNatClampNeg x11)) fun v16 => rd (inb v16 16) (w12.2.1 8 (Int32.toNatClampNeg v16)) fun v17 => bd (sJ0_min v15 v17) fun v18 => nm v18 fun x19 => rd (inb x11 40) (w12.2.1 5 (Int32.toNatClampNeg x11)) fun v20 => rd (inb v20 16) (w12.2.1 8 (Int32.toNatClampNeg v20)) fun v21 => jn (fun z22 => nm (x10 ||| z22) fun x24 => rd (inb x11 40) (w12.2.1 5 (Int32.toNatClampNeg x11)) fun v25 => rd (inb v25 16) (stG w12 8 (Int32.toNatClampNeg v25) x19) fun w26 => rd (inb x11 40) (w26.2.1 6 (Int32.toNatClampNeg x11)) fun v27 => rd (inb v27 16) (stG w26 8 (Int32.toNatClampNeg v27) x19) fun w28 => nm (x11 + (1 : Int32)) fun x29 => self13 x24 x29 w28) fun J23 => if v21 = x19 then (rd (inb x11 40) (w12.2.1 6 (Int32.toNatClampNeg x11)) fun v30 => rd (inb v30 16) (w12.2.1 8 (Int32.toNatClampNeg v30)) fun v31 => if v31 = x19 then (J23 (0 : Int32)) else (J23 (1 : Int32))) else (J23 (1 : Int32)))) FU
def sX_findParts_L25  : Int32 → Wd → Option (Wd) :=
  fx (fun _ _ => none) (fun self7 x5 w6 =>
    if x5 = 0 then (some w6) else (nm (0 : Int32) fun x8 => nm (0 : Int32) fun x9 => sX_findParts_L33 self7 x8 x9 w6)) FU
def sX_findParts_L2 (J3 : Wd → Option (Wd)) : Int32 → Wd → Option (Wd) :=
  fx (fun _ _ => none) (fun self34 x32 w33 =>
    if (w33.2.1 90 2) ≤ x32 then (J3 w33) else (rd (inb x32 16) (stG w33 8 (Int32.toNatClampNeg x32) x32) fun w35 => nm (x32 + (1 : Int32)) fun x36 => self34 x36 w35)) FU
def sX_findParts (w : Wd)  : Option (Wd) :=
  nm (0 : Int32) fun x1 => jn (fun w2 => nm (1 : Int32) fun x4 => sX_findParts_L25 x4 w2) fun J3 => sX_findParts_L2 J3 x1 w
abbrev rmX0_findParts : Room := { frames := 1, cells := 0, slots := 0, locals := 21 }
theorem pkX0_findParts : PkV yX0_findParts RX0 cX0_findParts 4 (none) 0 := ⟨q406, qs5, q57, q407, by decide +kernel⟩
set_option maxHeartbeats 4000000 in
theorem met_X0_findParts (l : Launch) (D : va_G) (g : Nat → ClassId) (ad sd : Nat → Nat) (w : Wd)  (sz : Nat) (w' : Wd) (ho : sX_findParts w = some w') : Met l yX0_findParts (ws_ yX0_findParts cX0_findParts 4 (none)) rmX0_findParts (va_Pc [.ref (ad 99)] (MPre D vwCl (tysG g) (cellsX g ad w) (NXX sd (cellsX g ad w)) sz)) (QcV D vwCl (tysG g) (cellsX g ad w') (va_A (cellsX g ad w) sz)) 0 0 (va_A (cellsX g ad w) sz) := by
  refine met_XJ (cw := cellsX g ad) (w := w) (cc := cX0_findParts) (lv := [(0, .ref (ad 99))]) pnX0 _ (Nat.le_of_ble_eq_true rfl) rfl ?_
  intro p e s m args below meth c R Q A B hN hr hsz hA hmm hRm hQ hAe
  have hX : NXA sd A s := by rw [hAe, ← hsz]; exact hN
  unfold sX_findParts at ho
  refine j_const B eX0_findParts_0 ?_
  refine j_istore_n (lv' := fun x1 => [(0, .ref (ad 99)), (1, .int x1)]) B eX0_findParts_1 [1, 0] (by decide) (fun _ => rfl) ho (fun x1 ho => ?_)
  refine jn1 (C := fun w2 => XJ p l e R s m args below meth c 0 0 Q A D vwCl (cellsX g ad) 4 w2 23 [(0, .ref (ad 99))] []) ho (fun w2 ho => ?_) (fun J3 hJ3 ho => ?_)
  · refine j_const B eX0_findParts_23 ?_
    refine j_istore_n (lv' := fun x4 => [(0, .ref (ad 99)), (1, .int x4)]) B eX0_findParts_24 [1, 0] (by decide) (fun _ => rfl) ho (fun x4 ho => ?_)
    unfold sX_findParts_L25 at ho
    refine fx2 (C := fun x5 w6 => XJ p l e R s m args below meth c 0 0 Q A D vwCl (cellsX g ad) 4 w6 25 [(0, .ref (ad 99)), (1, .int x5)] []) (fun self7 hself7 x5 w6 ho => ?_) FU _ _ ho
    refine j_iload_n B eX0_findParts_25 1 rfl ?_
    refine j_if_eq B eX0_findParts_26 ho (fun _ ho => ?_) (fun _ ho => ?_)
    · exact j_vretw B hr hQ eX0_findParts_138 ho
    · refine j_const B eX0_findParts_29 ?_
      refine j_istore_n (lv' := fun x8 => [(0, .ref (ad 99)), (1, .int x8)]) B eX0_findParts_30 [1, 0] (by decide) (fun _ => rfl) ho (fun x8 ho => ?_)
      refine j_const B eX0_findParts_31 ?_
      refine j_istore_n (lv' := fun x9 => [(0, .ref (ad 99)), (1, .int x8), (2, .int x9)]) B eX0_findParts_32 [1, 2, 0] (by decide) (fun _ => rfl) ho (fun x9 ho => ?_)
      unfold sX_findParts_L33 at ho
      refine fx3 (C := fun x10 x11 w12 => XJ p l e R s m args below meth c 0 0 Q A D vwCl (cellsX g ad) 4 w12 33 [(0, .ref (ad 99)), (1, .int x10), (2, .int x11)] []) (fun self13 hself13 x10 x11 w12 ho => ?_) FU _ _ _ ho
      refine j_iload_n B eX0_findParts_33 2 rfl ?_
      refine j_aload_n B eX0_findParts_34 0 rfl ?_
      refine gfX_10 B eX0_findParts_35 ?_
      refine j_icmp_ge B eX0_findParts_38 ho (fun _ ho => ?_) (fun _ ho => ?_)
      · refine j_goto B eX0_findParts_135 ?_
        refine j_lsub (lv' := [(0, .ref (ad 99)), (1, .int x10)]) [0, 1] rfl ?_
        exact hself7 _ _ ho
      · refine j_aload_n B eX0_findParts_41 0 rfl ?_
        refine gfX_8 B eX0_findParts_42 ?_
        refine j_aload_n B eX0_findParts_45 0 rfl ?_
        refine gfX_5 B eX0_findParts_46 ?_
        refine j_iload_n B eX0_findParts_49 2 rfl ?_
        refine ldX_5 B eX0_findParts_50 ho (fun v14 ho => ?_)
        refine ldX_8 B eX0_findParts_51 ho (fun v15 ho => ?_)
        refine j_aload_n B eX0_findParts_52 0 rfl ?_
        refine gfX_8 B eX0_findParts_53 ?_
        refine j_aload_n B eX0_findParts_56 0 rfl ?_
        refine gfX_6 B eX0_findParts_57 ?_
        refine j_iload_n B eX0_findParts_60 2 rfl ?_
        refine ldX_6 B eX0_findParts_61 ho (fun v16 ho => ?_)
        refine ldX_8 B eX0_findParts_62 ho (fun v17 ho => ?_)
        refine j_callSi (As := [.int v15, .int v17]) B hA (met_J0_min l D _ _ _ v15 v17) NT_ok pkJ0_min q408 rfl rfl hRm ⟨Nat.le_of_ble_eq_true rfl, Nat.le_of_ble_eq_true rfl⟩ rfl rfl (Nat.le_of_ble_eq_true rfl) ⟨Nat.zero_le _, Nat.zero_le _⟩ eX0_findParts_63 ho (fun v18 ho => ?_)
        refine j_istore_n (lv' := fun x19 => [(0, .ref (ad 99)), (1, .int x10), (2, .int x11), (3, .int x19)]) B eX0_findParts_66 [1, 2, 3, 0] (by decide) (fun _ => rfl) ho (fun x19 ho => ?_)
        refine j_iload_n B eX0_findParts_67 1 rfl ?_
        refine j_aload_n B eX0_findParts_68 0 rfl ?_
        refine gfX_8 B eX0_findParts_69 ?_
        refine j_aload_n B eX0_findParts_72 0 rfl ?_
        refine gfX_5 B eX0_findParts_73 ?_
        refine j_iload_n B eX0_findParts_76 2 rfl ?_
        refine ldX_5 B eX0_findParts_77 ho (fun v20 ho => ?_)
        refine ldX_8 B eX0_findParts_78 ho (fun v21 ho => ?_)
        refine j_iload_n B eX0_findParts_79 3 rfl ?_
        refine jn1 (C := fun z22 => XJ p l e R s m args below meth c 0 0 Q A D vwCl (cellsX g ad) 4 w12 103 [(0, .ref (ad 99)), (2, .int x11), (3, .int x19)] [.int z22, .int x10]) ho (fun z22 ho => ?_) (fun J23 hJ23 ho => ?_)
        · refine j_ior B eX0_findParts_103 ?_
          refine j_istore_n (lv' := fun x24 => [(0, .ref (ad 99)), (1, .int x24), (2, .int x11), (3, .int x19)]) B eX0_findParts_104 [1, 0, 2, 3] (by decide) (fun _ => rfl) ho (fun x24 ho => ?_)
          refine j_aload_n B eX0_findParts_105 0 rfl ?_
          refine gfX_8 B eX0_findParts_106 ?_
          refine j_aload_n B eX0_findParts_109 0 rfl ?_
          refine gfX_5 B eX0_findParts_110 ?_
          refine j_iload_n B eX0_findParts_113 2 rfl ?_
          refine ldX_5 B eX0_findParts_114 ho (fun v25 ho => ?_)
          refine j_iload_n B eX0_findParts_115 3 rfl ?_
          refine stX_8 B eX0_findParts_116 ho (fun w26 ho => ?_)
          refine j_aload_n B eX0_findParts_117 0 rfl ?_
          refine gfX_8 B eX0_findParts_118 ?_
          refine j_aload_n B eX0_findParts_121 0 rfl ?_
          refine gfX_6 B eX0_findParts_122 ?_
          refine j_iload_n B eX0_findParts_125 2 rfl ?_
          refine ldX_6 B eX0_findParts_126 ho (fun v27 ho => ?_)
          refine j_iload_n B eX0_findParts_127 3 rfl ?_
          refine stX_8 B eX0_findParts_128 ho (fun w28 ho => ?_)
          refine j_iinc (d := 1) (lv' := fun x29 => [(0, .ref (ad 99)), (1, .int x24), (2, .int x29)]) B eX0_findParts_129 2 rfl (by decide) [1, 2, 0] (by decide) (fun _ => rfl) ho (fun x29 ho => ?_)
          refine j_goto B eX0_findParts_132 ?_
          exact hself13 _ _ _ ho
        · refine j_icmp_ne B eX0_findParts_80 ho (fun _ ho => ?_) (fun _ ho => ?_)
          · refine j_const B eX0_findParts_98 ?_
            refine j_goto B eX0_findParts_99 ?_
            refine j_lsub (lv' := [(0, .ref (ad 99)), (2, .int x11), (3, .int x19)]) [0, 2, 3] rfl ?_
            exact hJ23 _ ho
          · refine j_aload_n B eX0_findParts_83 0 rfl ?_
            refine gfX_8 B eX0_findParts_84 ?_
            refine j_aload_n B eX0_findParts_87 0 rfl ?_
            refine gfX_6 B eX0_findParts_88 ?_
            refine j_iload_n B eX0_findParts_91 2 rfl ?_
            refine ldX_6 B eX0_findParts_92 ho (fun v30 ho => ?_)
            refine ldX_8 B eX0_findParts_93 ho (fun v31 ho => ?_)
            refine j_iload_n B eX0_findParts_94 3 rfl ?_
            refine j_icmp_eq B eX0_findParts_95 ho (fun _ ho => ?_) (fun _ ho => ?_)
            · refine j_const B eX0_findParts_102 ?_
              refine j_lsub (lv' := [(0, .ref (ad 99)), (2, .int x11), (3, .int x19)]) [0, 2, 3] rfl ?_
              exact hJ23 _ ho
            · refine j_const B eX0_findParts_98 ?_
              refine j_goto B eX0_findParts_99 ?_
              refine j_lsub (lv' := [(0, .ref (ad 99)), (2, .int x11), (3, .int x19)]) [0, 2, 3] rfl ?_
              exact hJ23 _ ho
  · unfold sX_findParts_L2 at ho
    refine fx2 (C := fun x32 w33 => XJ p l e R s m args below meth c 0 0 Q A D vwCl (cellsX g ad) 4 w33 2 [(0, .ref (ad 99)), (1, .int x32)] []) (fun self34 hself34 x32 w33 ho => ?_) FU _ _ ho
    refine j_iload_n B eX0_findParts_2 1 rfl ?_
    refine j_aload_n B eX0_findParts_3 0 rfl ?_
    refine gfX_2 B eX0_findParts_4 ?_
    refine j_icmp_ge B eX0_findParts_7 ho (fun _ ho => ?_) (fun _ ho => ?_)
    · refine j_lsub (lv' := [(0, .ref (ad 99))]) [0] rfl ?_
      exact hJ3 _ ho
    · refine j_aload_n B eX0_findParts_10 0 rfl ?_
      refine gfX_8 B eX0_findParts_11 ?_
      refine j_iload_n B eX0_findParts_14 1 rfl ?_
      refine j_iload_n B eX0_findParts_15 1 rfl ?_
      refine stX_8 B eX0_findParts_16 ho (fun w35 ho => ?_)
      refine j_iinc (d := 1) (lv' := fun x36 => [(0, .ref (ad 99)), (1, .int x36)]) B eX0_findParts_17 1 rfl (by decide) [1, 0] (by decide) (fun _ => rfl) ho (fun x36 ho => ?_)
      refine j_goto B eX0_findParts_20 ?_
      exact hself34 _ _ ho
def sX_group (w : Wd) (a1 : Int32) : Option (Int32 × Wd) :=
  bd (sX_isOar w a1) fun v1 => if v1 = 0 then (some ((-1 : Int32), w)) else (bd (sX_findParts w) fun w2 => rd (inb a1 16) (w2.2.1 8 (Int32.toNatClampNeg a1)) fun v3 => some (v3, w2))
abbrev rmX0_group : Room := { frames := 2, cells := 0, slots := 0, locals := 46 }
theorem pkX0_group : PkV yX0_group RX0 cX0_group 2 (some .int) 1 := ⟨q401, q402, q57, q403, by decide +kernel⟩
set_option maxHeartbeats 4000000 in
theorem met_X0_group (l : Launch) (D : va_G) (g : Nat → ClassId) (ad sd : Nat → Nat) (w : Wd) (a1 : Int32) (sz : Nat) (r : Int32) (w' : Wd) (ho : sX_group w a1 = some (r, w')) : Met l yX0_group (ws_ yX0_group cX0_group 2 (some .int)) rmX0_group (va_Pc [.ref (ad 99), .int a1] (MPre D vwCl (tysG g) (cellsX g ad w) (NXX sd (cellsX g ad w)) sz)) (QcI D vwCl (tysG g) (cellsX g ad w') r (va_A (cellsX g ad w) sz)) 0 0 (va_A (cellsX g ad w) sz) := by
  refine met_XJ (cw := cellsX g ad) (w := w) (cc := cX0_group) (lv := [(0, .ref (ad 99)), (1, .int a1)]) pnX0 _ (Nat.le_of_ble_eq_true rfl) rfl ?_
  intro p e s m args below meth c R Q A B hN hr hsz hA hmm hRm hQ hAe
  have hX : NXA sd A s := by rw [hAe, ← hsz]; exact hN
  unfold sX_group at ho
  refine j_aload_n B eX0_group_0 0 rfl ?_
  refine j_iload_n B eX0_group_1 1 rfl ?_
  refine j_callVi (As := [.int a1]) B hA (met_X0_isOar l D g ad sd w a1) (NXX_ok hX) pkX0_isOar q325 0 rfl rfl rfl rfl hRm ⟨Nat.le_of_ble_eq_true rfl, Nat.le_of_ble_eq_true rfl⟩ rfl rfl (Nat.le_of_ble_eq_true rfl) ⟨Nat.zero_le _, Nat.zero_le _⟩ eX0_group_2 ho (fun v1 ho => ?_)
  refine j_if_ne B eX0_group_5 ho (fun _ ho => ?_) (fun _ ho => ?_)
  · refine j_aload_n B eX0_group_10 0 rfl ?_
    refine j_callVvw (As := []) B hA (met_X0_findParts l D g ad sd w) (NXX_ok hX) pkX0_findParts q404 0 rfl rfl rfl rfl hRm ⟨Nat.le_of_ble_eq_true rfl, Nat.le_of_ble_eq_true rfl⟩ rfl rfl (Nat.le_of_ble_eq_true rfl) ⟨Nat.zero_le _, Nat.zero_le _⟩ eX0_group_11 ho (fun w2 ho => ?_)
    refine j_aload_n B eX0_group_14 0 rfl ?_
    refine gfX_8 B eX0_group_15 ?_
    refine j_iload_n B eX0_group_18 1 rfl ?_
    refine ldX_8 B eX0_group_19 ho (fun v3 ho => ?_)
    exact j_iretw B hr hQ eX0_group_20 ho
  · refine j_const B eX0_group_8 ?_
    exact j_iretw B hr hQ eX0_group_9 ho
def sX_isBig_L4 (w : Wd) (a1 : Int32) (J4 : Int32 → Option (Int32)) : Int32 → Int32 → Option (Int32) :=
  fx (fun _ _ => none) (fun self7 x5 x6 =>
    if (w.2.1 90 2) ≤ x6 then (J4 x5) else (rd (inb x6 16) (w.2.1 8 (Int32.toNatClampNeg x6)) fun v8 => if v8 = a1 then (nm (x5 + (1 : Int32)) fun x10 => nm (x6 + (1 : Int32)) fun x11 => self7 x10 x11) else (nm (x6 + (1 : Int32)) fun x9 => self7 x5 x9))) FU
def sX_isBig (w : Wd) (a1 : Int32) : Option (Int32) :=
  nm (0 : Int32) fun x1 => nm (0 : Int32) fun x2 => jn (fun x3 => if x3 ≤ (7 : Int32) then (some (0 : Int32)) else (some (1 : Int32))) fun J4 => sX_isBig_L4 w a1 J4 x1 x2
abbrev rmX0_isBig : Room := { frames := 0, cells := 0, slots := 0, locals := 0 }
theorem pkX0_isBig : PkV yX0_isBig RX0 cX0_isBig 4 (some .boolean) 1 := ⟨q418, qs6, q57, q419, by decide +kernel⟩
set_option maxHeartbeats 4000000 in
theorem met_X0_isBig (l : Launch) (D : va_G) (g : Nat → ClassId) (ad sd : Nat → Nat) (w : Wd) (a1 : Int32) (sz : Nat) (r : Int32) (ho : sX_isBig w a1 = some r) : Met l yX0_isBig (ws_ yX0_isBig cX0_isBig 4 (some .boolean)) rmX0_isBig (va_Pc [.ref (ad 99), .int a1] (MPre D vwCl (tysG g) (cellsX g ad w) (NXX sd (cellsX g ad w)) sz)) (QcI D vwCl (tysG g) (cellsX g ad w) r (va_A (cellsX g ad w) sz)) 0 0 (va_A (cellsX g ad w) sz) := by
  refine met_XJ (cw := cellsX g ad) (w := w) (cc := cX0_isBig) (lv := [(0, .ref (ad 99)), (1, .int a1)]) pnX0 _ (Nat.le_of_ble_eq_true rfl) rfl ?_
  intro p e s m args below meth c R Q A B hN hr hsz hA hmm hRm hQ hAe
  have hX : NXA sd A s := by rw [hAe, ← hsz]; exact hN
  unfold sX_isBig at ho
  refine j_const B eX0_isBig_0 ?_
  refine j_istore_n (lv' := fun x1 => [(0, .ref (ad 99)), (1, .int a1), (2, .int x1)]) B eX0_isBig_1 [1, 2, 0] (by decide) (fun _ => rfl) ho (fun x1 ho => ?_)
  refine j_const B eX0_isBig_2 ?_
  refine j_istore_n (lv' := fun x2 => [(0, .ref (ad 99)), (1, .int a1), (2, .int x1), (3, .int x2)]) B eX0_isBig_3 [1, 2, 3, 0] (by decide) (fun _ => rfl) ho (fun x2 ho => ?_)
  refine jn1 (C := fun x3 => XJ p l e R s m args below meth c 0 0 Q A D vwCl (cellsX g ad) 4 w 31 [(2, .int x3)] []) ho (fun x3 ho => ?_) (fun J4 hJ4 ho => ?_)
  · refine j_iload_n B eX0_isBig_31 0 rfl ?_
    refine j_const B eX0_isBig_32 ?_
    refine j_icmp_le B eX0_isBig_34 ho (fun _ ho => ?_) (fun _ ho => ?_)
    · refine j_const B eX0_isBig_41 ?_
      exact j_zret B hr rfl hQ eX0_isBig_42 ho
    · refine j_const B eX0_isBig_37 ?_
      refine j_goto B eX0_isBig_38 ?_
      exact j_zret B hr rfl hQ eX0_isBig_42 ho
  · unfold sX_isBig_L4 at ho
    refine fx2 (C := fun x5 x6 => XJ p l e R s m args below meth c 0 0 Q A D vwCl (cellsX g ad) 4 w 4 [(0, .ref (ad 99)), (1, .int a1), (2, .int x5), (3, .int x6)] []) (fun self7 hself7 x5 x6 ho => ?_) FU _ _ ho
    refine j_iload_n B eX0_isBig_4 3 rfl ?_
    refine j_aload_n B eX0_isBig_5 0 rfl ?_
    refine gfX_2 B eX0_isBig_6 ?_
    refine j_icmp_ge B eX0_isBig_9 ho (fun _ ho => ?_) (fun _ ho => ?_)
    · refine j_lsub (lv' := [(2, .int x5)]) [2] rfl ?_
      exact hJ4 _ ho
    · refine j_aload_n B eX0_isBig_12 0 rfl ?_
      refine gfX_8 B eX0_isBig_13 ?_
      refine j_iload_n B eX0_isBig_16 3 rfl ?_
      refine ldX_8 B eX0_isBig_17 ho (fun v8 ho => ?_)
      refine j_iload_n B eX0_isBig_18 1 rfl ?_
      refine j_icmp_ne B eX0_isBig_19 ho (fun _ ho => ?_) (fun _ ho => ?_)
      · refine j_iinc (d := 1) (lv' := fun x9 => [(0, .ref (ad 99)), (1, .int a1), (2, .int x5), (3, .int x9)]) B eX0_isBig_25 3 rfl (by decide) [1, 2, 3, 0] (by decide) (fun _ => rfl) ho (fun x9 ho => ?_)
        refine j_goto B eX0_isBig_28 ?_
        exact hself7 _ _ ho
      · refine j_iinc (d := 1) (lv' := fun x10 => [(0, .ref (ad 99)), (1, .int a1), (2, .int x10), (3, .int x6)]) B eX0_isBig_22 2 rfl (by decide) [1, 2, 0, 3] (by decide) (fun _ => rfl) ho (fun x10 ho => ?_)
        refine j_iinc (d := 1) (lv' := fun x11 => [(0, .ref (ad 99)), (1, .int a1), (2, .int x10), (3, .int x11)]) B eX0_isBig_25 3 rfl (by decide) [1, 2, 3, 0] (by decide) (fun _ => rfl) ho (fun x11 ho => ?_)
        refine j_goto B eX0_isBig_28 ?_
        exact hself7 _ _ ho
def sX_add (w : Wd) (a1 : Int32) (a2 : Int32) (a3 : Int32) : Option (Wd) :=
  if a1 = (-1 : Int32) then (some w) else (bd (sX_at a1 a1) fun v1 => rd (inb v1 272) (w.2.2 11 (Int32.toNatClampNeg v1)) fun v2 => rd (inb v1 272) (stL w 11 (Int32.toNatClampNeg v1) (v2 + (1 : Int64))) fun w3 => jn (fun w4 => bd (sX_at a1 (w4.2.1 90 12)) fun v6 => rd (inb v6 272) (w4.2.2 11 (Int32.toNatClampNeg v6)) fun v7 => rd (inb v6 272) (stL w4 11 (Int32.toNatClampNeg v6) (v7 + (Int32.toInt64 a3))) fun w8 => some w8) fun J5 => if a2 = (-1 : Int32) then (J5 w3) else (bd (sX_at a1 a2) fun v9 => rd (inb v9 272) (w3.2.2 11 (Int32.toNatClampNeg v9)) fun v10 => rd (inb v9 272) (stL w3 11 (Int32.toNatClampNeg v9) (v10 - (1 : Int64))) fun w11 => J5 w11))
abbrev rmX0_add : Room := { frames := 1, cells := 0, slots := 0, locals := 21 }
theorem pkX0_add : PkV yX0_add RX0 cX0_add 4 (none) 3 := ⟨q426, qs8, q57, q427, by decide +kernel⟩
set_option maxHeartbeats 4000000 in
theorem met_X0_add (l : Launch) (D : va_G) (g : Nat → ClassId) (ad sd : Nat → Nat) (w : Wd) (a1 : Int32) (a2 : Int32) (a3 : Int32) (sz : Nat) (w' : Wd) (ho : sX_add w a1 a2 a3 = some w') : Met l yX0_add (ws_ yX0_add cX0_add 4 (none)) rmX0_add (va_Pc [.ref (ad 99), .int a1, .int a2, .int a3] (MPre D vwCl (tysG g) (cellsX g ad w) (NXX sd (cellsX g ad w)) sz)) (QcV D vwCl (tysG g) (cellsX g ad w') (va_A (cellsX g ad w) sz)) 0 0 (va_A (cellsX g ad w) sz) := by
  refine met_XJ (cw := cellsX g ad) (w := w) (cc := cX0_add) (lv := [(0, .ref (ad 99)), (1, .int a1), (2, .int a2), (3, .int a3)]) pnX0 _ (Nat.le_of_ble_eq_true rfl) rfl ?_
  intro p e s m args below meth c R Q A B hN hr hsz hA hmm hRm hQ hAe
  have hX : NXA sd A s := by rw [hAe, ← hsz]; exact hN
  unfold sX_add at ho
  refine j_iload_n B eX0_add_0 1 rfl ?_
  refine j_const B eX0_add_1 ?_
  refine j_icmp_ne B eX0_add_2 ho (fun _ ho => ?_) (fun _ ho => ?_)
  · refine j_aload_n B eX0_add_6 0 rfl ?_
    refine gfX_11 B eX0_add_7 ?_
    refine j_iload_n B eX0_add_10 1 rfl ?_
    refine j_iload_n B eX0_add_11 1 rfl ?_
    refine j_callSi (As := [.int a1, .int a1]) B hA (met_X0_at l D _ _ _ a1 a1) NT_ok pkX0_at q428 rfl rfl hRm ⟨Nat.le_of_ble_eq_true rfl, Nat.le_of_ble_eq_true rfl⟩ rfl rfl (Nat.le_of_ble_eq_true rfl) ⟨Nat.zero_le _, Nat.zero_le _⟩ eX0_add_12 ho (fun v1 ho => ?_)
    refine j_dup2 B eX0_add_15 rfl rfl ?_
    refine ldX_11 B eX0_add_16 ho (fun v2 ho => ?_)
    refine j_lconst (v := 1) B eX0_add_17 rfl ?_
    refine j_ladd B eX0_add_18 ?_
    refine stX_11 B eX0_add_19 ho (fun w3 ho => ?_)
    refine j_iload_n B eX0_add_20 2 rfl ?_
    refine j_const B eX0_add_21 ?_
    refine jn1 (C := fun w4 => XJ p l e R s m args below meth c 0 0 Q A D vwCl (cellsX g ad) 4 w4 39 [(0, .ref (ad 99)), (1, .int a1), (3, .int a3)] []) ho (fun w4 ho => ?_) (fun J5 hJ5 ho => ?_)
    · refine j_aload_n B eX0_add_39 0 rfl ?_
      refine gfX_11 B eX0_add_40 ?_
      refine j_iload_n B eX0_add_43 1 rfl ?_
      refine j_aload_n B eX0_add_44 0 rfl ?_
      refine gfX_12 B eX0_add_45 ?_
      refine j_callSi (As := [.int a1, .int (w4.2.1 90 12)]) B hA (met_X0_at l D _ _ _ a1 (w4.2.1 90 12)) NT_ok pkX0_at q428 rfl rfl hRm ⟨Nat.le_of_ble_eq_true rfl, Nat.le_of_ble_eq_true rfl⟩ rfl rfl (Nat.le_of_ble_eq_true rfl) ⟨Nat.zero_le _, Nat.zero_le _⟩ eX0_add_48 ho (fun v6 ho => ?_)
      refine j_dup2 B eX0_add_51 rfl rfl ?_
      refine ldX_11 B eX0_add_52 ho (fun v7 ho => ?_)
      refine j_iload_n B eX0_add_53 2 rfl ?_
      refine j_i2l B eX0_add_54 ?_
      refine j_ladd B eX0_add_55 ?_
      refine stX_11 B eX0_add_56 ho (fun w8 ho => ?_)
      exact j_vretw B hr hQ eX0_add_57 ho
    · refine j_icmp_eq B eX0_add_22 ho (fun _ ho => ?_) (fun _ ho => ?_)
      · refine j_lsub (lv' := [(0, .ref (ad 99)), (1, .int a1), (3, .int a3)]) [0, 1, 3] rfl ?_
        exact hJ5 _ ho
      · refine j_aload_n B eX0_add_25 0 rfl ?_
        refine gfX_11 B eX0_add_26 ?_
        refine j_iload_n B eX0_add_29 1 rfl ?_
        refine j_iload_n B eX0_add_30 2 rfl ?_
        refine j_callSi (As := [.int a1, .int a2]) B hA (met_X0_at l D _ _ _ a1 a2) NT_ok pkX0_at q428 rfl rfl hRm ⟨Nat.le_of_ble_eq_true rfl, Nat.le_of_ble_eq_true rfl⟩ rfl rfl (Nat.le_of_ble_eq_true rfl) ⟨Nat.zero_le _, Nat.zero_le _⟩ eX0_add_31 ho (fun v9 ho => ?_)
        refine j_dup2 B eX0_add_34 rfl rfl ?_
        refine ldX_11 B eX0_add_35 ho (fun v10 ho => ?_)
        refine j_lconst (v := 1) B eX0_add_36 rfl ?_
        refine j_lsubt B eX0_add_37 ?_
        refine stX_11 B eX0_add_38 ho (fun w11 ho => ?_)
        refine j_lsub (lv' := [(0, .ref (ad 99)), (1, .int a1), (3, .int a3)]) [0, 1, 3] rfl ?_
        exact hJ5 _ ho
  · exact j_vretw B hr hQ eX0_add_5 ho
def sX_layOut_L92 (a1 : Int32) : Int32 → Wd → Option (Wd) :=
  fx (fun _ _ => none) (fun self11 x9 w10 =>
    if (w10.2.1 90 10) ≤ x9 then (some w10) else (rd (inb x9 40) (w10.2.1 5 (Int32.toNatClampNeg x9)) fun v12 => rd (inb v12 16) (w10.2.1 8 (Int32.toNatClampNeg v12)) fun v13 => if v13 = a1 then (rd (inb x9 40) (w10.2.1 5 (Int32.toNatClampNeg x9)) fun v14 => rd (inb v14 16) (w10.2.1 9 (Int32.toNatClampNeg v14)) fun v15 => rd (inb x9 40) (w10.2.1 6 (Int32.toNatClampNeg x9)) fun v16 => rd (inb v16 16) (w10.2.1 9 (Int32.toNatClampNeg v16)) fun v17 => rd (inb x9 40) (w10.2.1 7 (Int32.toNatClampNeg x9)) fun v18 => bd (sX_add w10 v15 v17 v18) fun w19 => rd (inb x9 40) (w19.2.1 6 (Int32.toNatClampNeg x9)) fun v20 => rd (inb v20 16) (w19.2.1 9 (Int32.toNatClampNeg v20)) fun v21 => rd (inb x9 40) (w19.2.1 5 (Int32.toNatClampNeg x9)) fun v22 => rd (inb v22 16) (w19.2.1 9 (Int32.toNatClampNeg v22)) fun v23 => rd (inb x9 40) (w19.2.1 7 (Int32.toNatClampNeg x9)) fun v24 => bd (sX_add w19 v21 v23 (-v24)) fun w25 => nm (x9 + (1 : Int32)) fun x26 => self11 x26 w25) else (nm (x9 + (1 : Int32)) fun x27 => self11 x27 w10))) FU
def sX_layOut_L68 (J7 : Wd → Option (Wd)) : Int32 → Wd → Option (Wd) :=
  fx (fun _ _ => none) (fun self30 x28 w29 =>
    if (272 : Int32) ≤ x28 then (J7 w29) else (rd (inb x28 272) (stL w29 11 (Int32.toNatClampNeg x28) (0 : Int64)) fun w31 => nm (x28 + (1 : Int32)) fun x32 => self30 x32 w31)) FU
def sX_layOut_L7 (a1 : Int32) (J4 : Wd → Option (Wd)) : Int32 → Wd → Option (Wd) :=
  fx (fun _ _ => none) (fun self35 x33 w34 =>
    if (w34.2.1 90 2) ≤ x33 then (J4 w34) else (rd (inb x33 16) (stG w34 9 (Int32.toNatClampNeg x33) (-1 : Int32)) fun w36 => rd (inb x33 16) (w36.2.1 8 (Int32.toNatClampNeg x33)) fun v37 => if v37 = a1 then (if x33 = a1 then (nm (x33 + (1 : Int32)) fun x42 => self35 x42 w36) else (rd (inb x33 16) (stG w36 9 (Int32.toNatClampNeg x33) (w36.2.1 90 12)) fun w39 => nm (stG w39 90 12 ((w39.2.1 90 12) + (1 : Int32))) fun w40 => nm (x33 + (1 : Int32)) fun x41 => self35 x41 w40)) else (nm (x33 + (1 : Int32)) fun x38 => self35 x38 w36))) FU
def sX_layOut (w : Wd) (a1 : Int32) : Option (Wd) :=
  nm (stG w 90 12 (0 : Int32)) fun w1 => nm (0 : Int32) fun x2 => jn (fun w3 => nm (0 : Int32) fun x5 => jn (fun w6 => nm (0 : Int32) fun x8 => sX_layOut_L92 a1 x8 w6) fun J7 => sX_layOut_L68 J7 x5 w3) fun J4 => sX_layOut_L7 a1 J4 x2 w1
abbrev rmX0_layOut : Room := { frames := 2, cells := 0, slots := 0, locals := 44 }
theorem pkX0_layOut : PkV yX0_layOut RX0 cX0_layOut 3 (none) 1 := ⟨q422, qs7, q57, q423, by decide +kernel⟩
set_option maxHeartbeats 4000000 in
theorem met_X0_layOut (l : Launch) (D : va_G) (g : Nat → ClassId) (ad sd : Nat → Nat) (w : Wd) (a1 : Int32) (sz : Nat) (w' : Wd) (ho : sX_layOut w a1 = some w') : Met l yX0_layOut (ws_ yX0_layOut cX0_layOut 3 (none)) rmX0_layOut (va_Pc [.ref (ad 99), .int a1] (MPre D vwCl (tysG g) (cellsX g ad w) (NXX sd (cellsX g ad w)) sz)) (QcV D vwCl (tysG g) (cellsX g ad w') (va_A (cellsX g ad w) sz)) 0 0 (va_A (cellsX g ad w) sz) := by
  refine met_XJ (cw := cellsX g ad) (w := w) (cc := cX0_layOut) (lv := [(0, .ref (ad 99)), (1, .int a1)]) pnX0 _ (Nat.le_of_ble_eq_true rfl) rfl ?_
  intro p e s m args below meth c R Q A B hN hr hsz hA hmm hRm hQ hAe
  have hX : NXA sd A s := by rw [hAe, ← hsz]; exact hN
  unfold sX_layOut at ho
  refine j_aload_n B eX0_layOut_0 0 rfl ?_
  refine j_const B eX0_layOut_1 ?_
  refine pfX_12 B eX0_layOut_2 ho (fun w1 ho => ?_)
  refine j_const B eX0_layOut_5 ?_
  refine j_istore_n (lv' := fun x2 => [(0, .ref (ad 99)), (1, .int a1), (2, .int x2)]) B eX0_layOut_6 [1, 2, 0] (by decide) (fun _ => rfl) ho (fun x2 ho => ?_)
  refine jn1 (C := fun w3 => XJ p l e R s m args below meth c 0 0 Q A D vwCl (cellsX g ad) 3 w3 66 [(0, .ref (ad 99)), (1, .int a1)] []) ho (fun w3 ho => ?_) (fun J4 hJ4 ho => ?_)
  · refine j_const B eX0_layOut_66 ?_
    refine j_istore_n (lv' := fun x5 => [(0, .ref (ad 99)), (1, .int a1), (2, .int x5)]) B eX0_layOut_67 [1, 2, 0] (by decide) (fun _ => rfl) ho (fun x5 ho => ?_)
    refine jn1 (C := fun w6 => XJ p l e R s m args below meth c 0 0 Q A D vwCl (cellsX g ad) 3 w6 90 [(0, .ref (ad 99)), (1, .int a1)] []) ho (fun w6 ho => ?_) (fun J7 hJ7 ho => ?_)
    · refine j_const B eX0_layOut_90 ?_
      refine j_istore_n (lv' := fun x8 => [(0, .ref (ad 99)), (1, .int a1), (2, .int x8)]) B eX0_layOut_91 [1, 2, 0] (by decide) (fun _ => rfl) ho (fun x8 ho => ?_)
      unfold sX_layOut_L92 at ho
      refine fx2 (C := fun x9 w10 => XJ p l e R s m args below meth c 0 0 Q A D vwCl (cellsX g ad) 3 w10 92 [(0, .ref (ad 99)), (1, .int a1), (2, .int x9)] []) (fun self11 hself11 x9 w10 ho => ?_) FU _ _ ho
      refine j_iload_n B eX0_layOut_92 2 rfl ?_
      refine j_aload_n B eX0_layOut_93 0 rfl ?_
      refine gfX_10 B eX0_layOut_94 ?_
      refine j_icmp_ge B eX0_layOut_97 ho (fun _ ho => ?_) (fun _ ho => ?_)
      · exact j_vretw B hr hQ eX0_layOut_189 ho
      · refine j_aload_n B eX0_layOut_100 0 rfl ?_
        refine gfX_8 B eX0_layOut_101 ?_
        refine j_aload_n B eX0_layOut_104 0 rfl ?_
        refine gfX_5 B eX0_layOut_105 ?_
        refine j_iload_n B eX0_layOut_108 2 rfl ?_
        refine ldX_5 B eX0_layOut_109 ho (fun v12 ho => ?_)
        refine ldX_8 B eX0_layOut_110 ho (fun v13 ho => ?_)
        refine j_iload_n B eX0_layOut_111 1 rfl ?_
        refine j_icmp_eq B eX0_layOut_112 ho (fun _ ho => ?_) (fun _ ho => ?_)
        · refine j_aload_n B eX0_layOut_118 0 rfl ?_
          refine j_aload_n B eX0_layOut_119 0 rfl ?_
          refine gfX_9 B eX0_layOut_120 ?_
          refine j_aload_n B eX0_layOut_123 0 rfl ?_
          refine gfX_5 B eX0_layOut_124 ?_
          refine j_iload_n B eX0_layOut_127 2 rfl ?_
          refine ldX_5 B eX0_layOut_128 ho (fun v14 ho => ?_)
          refine ldX_9 B eX0_layOut_129 ho (fun v15 ho => ?_)
          refine j_aload_n B eX0_layOut_130 0 rfl ?_
          refine gfX_9 B eX0_layOut_131 ?_
          refine j_aload_n B eX0_layOut_134 0 rfl ?_
          refine gfX_6 B eX0_layOut_135 ?_
          refine j_iload_n B eX0_layOut_138 2 rfl ?_
          refine ldX_6 B eX0_layOut_139 ho (fun v16 ho => ?_)
          refine ldX_9 B eX0_layOut_140 ho (fun v17 ho => ?_)
          refine j_aload_n B eX0_layOut_141 0 rfl ?_
          refine gfX_7 B eX0_layOut_142 ?_
          refine j_iload_n B eX0_layOut_145 2 rfl ?_
          refine ldX_7 B eX0_layOut_146 ho (fun v18 ho => ?_)
          refine j_callVvw (As := [.int v15, .int v17, .int v18]) B hA (met_X0_add l D g ad sd w10 v15 v17 v18) (NXX_ok hX) pkX0_add q424 0 rfl rfl rfl rfl hRm ⟨Nat.le_of_ble_eq_true rfl, Nat.le_of_ble_eq_true rfl⟩ rfl rfl (Nat.le_of_ble_eq_true rfl) ⟨Nat.zero_le _, Nat.zero_le _⟩ eX0_layOut_147 ho (fun w19 ho => ?_)
          refine j_aload_n B eX0_layOut_150 0 rfl ?_
          refine j_aload_n B eX0_layOut_151 0 rfl ?_
          refine gfX_9 B eX0_layOut_152 ?_
          refine j_aload_n B eX0_layOut_155 0 rfl ?_
          refine gfX_6 B eX0_layOut_156 ?_
          refine j_iload_n B eX0_layOut_159 2 rfl ?_
          refine ldX_6 B eX0_layOut_160 ho (fun v20 ho => ?_)
          refine ldX_9 B eX0_layOut_161 ho (fun v21 ho => ?_)
          refine j_aload_n B eX0_layOut_162 0 rfl ?_
          refine gfX_9 B eX0_layOut_163 ?_
          refine j_aload_n B eX0_layOut_166 0 rfl ?_
          refine gfX_5 B eX0_layOut_167 ?_
          refine j_iload_n B eX0_layOut_170 2 rfl ?_
          refine ldX_5 B eX0_layOut_171 ho (fun v22 ho => ?_)
          refine ldX_9 B eX0_layOut_172 ho (fun v23 ho => ?_)
          refine j_aload_n B eX0_layOut_173 0 rfl ?_
          refine gfX_7 B eX0_layOut_174 ?_
          refine j_iload_n B eX0_layOut_177 2 rfl ?_
          refine ldX_7 B eX0_layOut_178 ho (fun v24 ho => ?_)
          refine j_ineg B eX0_layOut_179 ?_
          refine j_callVvw (As := [.int v21, .int v23, .int (-v24)]) B hA (met_X0_add l D g ad sd w19 v21 v23 (-v24)) (NXX_ok hX) pkX0_add q424 0 rfl rfl rfl rfl hRm ⟨Nat.le_of_ble_eq_true rfl, Nat.le_of_ble_eq_true rfl⟩ rfl rfl (Nat.le_of_ble_eq_true rfl) ⟨Nat.zero_le _, Nat.zero_le _⟩ eX0_layOut_180 ho (fun w25 ho => ?_)
          refine j_iinc (d := 1) (lv' := fun x26 => [(0, .ref (ad 99)), (1, .int a1), (2, .int x26)]) B eX0_layOut_183 2 rfl (by decide) [1, 2, 0] (by decide) (fun _ => rfl) ho (fun x26 ho => ?_)
          refine j_goto B eX0_layOut_186 ?_
          exact hself11 _ _ ho
        · refine j_goto B eX0_layOut_115 ?_
          refine j_iinc (d := 1) (lv' := fun x27 => [(0, .ref (ad 99)), (1, .int a1), (2, .int x27)]) B eX0_layOut_183 2 rfl (by decide) [1, 2, 0] (by decide) (fun _ => rfl) ho (fun x27 ho => ?_)
          refine j_goto B eX0_layOut_186 ?_
          exact hself11 _ _ ho
    · unfold sX_layOut_L68 at ho
      refine fx2 (C := fun x28 w29 => XJ p l e R s m args below meth c 0 0 Q A D vwCl (cellsX g ad) 3 w29 68 [(0, .ref (ad 99)), (1, .int a1), (2, .int x28)] []) (fun self30 hself30 x28 w29 ho => ?_) FU _ _ ho
      refine j_iload_n B eX0_layOut_68 2 rfl ?_
      refine j_aload_n B eX0_layOut_69 0 rfl ?_
      refine gfX_11 B eX0_layOut_70 ?_
      refine j_alen B 8 1 rfl rfl rfl eX0_layOut_73 ?_
      refine j_icmp_ge B eX0_layOut_74 ho (fun _ ho => ?_) (fun _ ho => ?_)
      · refine j_lsub (lv' := [(0, .ref (ad 99)), (1, .int a1)]) [0, 1] rfl ?_
        exact hJ7 _ ho
      · refine j_aload_n B eX0_layOut_77 0 rfl ?_
        refine gfX_11 B eX0_layOut_78 ?_
        refine j_iload_n B eX0_layOut_81 2 rfl ?_
        refine j_lconst (v := 0) B eX0_layOut_82 rfl ?_
        refine stX_11 B eX0_layOut_83 ho (fun w31 ho => ?_)
        refine j_iinc (d := 1) (lv' := fun x32 => [(0, .ref (ad 99)), (1, .int a1), (2, .int x32)]) B eX0_layOut_84 2 rfl (by decide) [1, 2, 0] (by decide) (fun _ => rfl) ho (fun x32 ho => ?_)
        refine j_goto B eX0_layOut_87 ?_
        exact hself30 _ _ ho
  · unfold sX_layOut_L7 at ho
    refine fx2 (C := fun x33 w34 => XJ p l e R s m args below meth c 0 0 Q A D vwCl (cellsX g ad) 3 w34 7 [(0, .ref (ad 99)), (1, .int a1), (2, .int x33)] []) (fun self35 hself35 x33 w34 ho => ?_) FU _ _ ho
    refine j_iload_n B eX0_layOut_7 2 rfl ?_
    refine j_aload_n B eX0_layOut_8 0 rfl ?_
    refine gfX_2 B eX0_layOut_9 ?_
    refine j_icmp_ge B eX0_layOut_12 ho (fun _ ho => ?_) (fun _ ho => ?_)
    · refine j_lsub (lv' := [(0, .ref (ad 99)), (1, .int a1)]) [0, 1] rfl ?_
      exact hJ4 _ ho
    · refine j_aload_n B eX0_layOut_15 0 rfl ?_
      refine gfX_9 B eX0_layOut_16 ?_
      refine j_iload_n B eX0_layOut_19 2 rfl ?_
      refine j_const B eX0_layOut_20 ?_
      refine stX_9 B eX0_layOut_21 ho (fun w36 ho => ?_)
      refine j_aload_n B eX0_layOut_22 0 rfl ?_
      refine gfX_8 B eX0_layOut_23 ?_
      refine j_iload_n B eX0_layOut_26 2 rfl ?_
      refine ldX_8 B eX0_layOut_27 ho (fun v37 ho => ?_)
      refine j_iload_n B eX0_layOut_28 1 rfl ?_
      refine j_icmp_ne B eX0_layOut_29 ho (fun _ ho => ?_) (fun _ ho => ?_)
      · refine j_iinc (d := 1) (lv' := fun x38 => [(0, .ref (ad 99)), (1, .int a1), (2, .int x38)]) B eX0_layOut_60 2 rfl (by decide) [1, 2, 0] (by decide) (fun _ => rfl) ho (fun x38 ho => ?_)
        refine j_goto B eX0_layOut_63 ?_
        exact hself35 _ _ ho
      · refine j_iload_n B eX0_layOut_32 2 rfl ?_
        refine j_iload_n B eX0_layOut_33 1 rfl ?_
        refine j_icmp_ne B eX0_layOut_34 ho (fun _ ho => ?_) (fun _ ho => ?_)
        · refine j_aload_n B eX0_layOut_40 0 rfl ?_
          refine gfX_9 B eX0_layOut_41 ?_
          refine j_iload_n B eX0_layOut_44 2 rfl ?_
          refine j_aload_n B eX0_layOut_45 0 rfl ?_
          refine gfX_12 B eX0_layOut_46 ?_
          refine stX_9 B eX0_layOut_49 ho (fun w39 ho => ?_)
          refine j_aload_n B eX0_layOut_50 0 rfl ?_
          refine j_dup B eX0_layOut_51 rfl ?_
          refine gfX_12 B eX0_layOut_52 ?_
          refine j_const B eX0_layOut_55 ?_
          refine j_iadd B eX0_layOut_56 ?_
          refine pfX_12 B eX0_layOut_57 ho (fun w40 ho => ?_)
          refine j_iinc (d := 1) (lv' := fun x41 => [(0, .ref (ad 99)), (1, .int a1), (2, .int x41)]) B eX0_layOut_60 2 rfl (by decide) [1, 2, 0] (by decide) (fun _ => rfl) ho (fun x41 ho => ?_)
          refine j_goto B eX0_layOut_63 ?_
          exact hself35 _ _ ho
        · refine j_goto B eX0_layOut_37 ?_
          refine j_iinc (d := 1) (lv' := fun x42 => [(0, .ref (ad 99)), (1, .int a1), (2, .int x42)]) B eX0_layOut_60 2 rfl (by decide) [1, 2, 0] (by decide) (fun _ => rfl) ho (fun x42 ho => ?_)
          refine j_goto B eX0_layOut_63 ?_
          exact hself35 _ _ ho
def sX_solve_L61 (x9 : Int64) (x10 : Int32) (x15 : Int64) (x21 : Int32) (self23 : Int32 → Wd → Option (Wd)) (x26 : Int64) : Int32 → Wd → Option (Wd) :=
  fx (fun _ _ => none) (fun self30 x28 w29 =>
    if (w29.2.1 90 12) < x28 then (nm (x21 + (1 : Int32)) fun x31 => self23 x31 w29) else (bd (sX_at x21 x28) fun v32 => bd (sX_at x21 x28) fun v33 => rd (inb v33 272) (w29.2.2 11 (Int32.toNatClampNeg v33)) fun v34 => bd (sX_at x10 x28) fun v35 => rd (inb v35 272) (w29.2.2 11 (Int32.toNatClampNeg v35)) fun v36 => rd (!decide (x9 = 0)) (((v34 * x15) - (v36 * x26)) / x9) fun v37 => rd (inb v32 272) (stL w29 11 (Int32.toNatClampNeg v32) v37) fun w38 => nm (x28 + (1 : Int32)) fun x39 => self30 x39 w38)) FU
def sX_solve_L27 (x9 : Int64) (x10 : Int32) (x15 : Int64) (J18 : Wd → Option (Wd)) : Int32 → Wd → Option (Wd) :=
  fx (fun _ _ => none) (fun self23 x21 w22 =>
    if (w22.2.1 90 12) ≤ x21 then (J18 w22) else (if x21 = x10 then (nm (x21 + (1 : Int32)) fun x40 => self23 x40 w22) else (bd (sX_at x21 x10) fun v24 => rd (inb v24 272) (w22.2.2 11 (Int32.toNatClampNeg v24)) fun v25 => nm v25 fun x26 => nm (0 : Int32) fun x27 => sX_solve_L61 x9 x10 x15 x21 self23 x26 x27 w22))) FU
def sX_solve_L4 (J5 : Int64 → Wd → Option (Wd)) : Int64 → Int32 → Wd → Option (Wd) :=
  fx (fun _ _ _ => none) (fun self12 x9 x10 w11 =>
    if (w11.2.1 90 12) ≤ x10 then (J5 x9 w11) else (bd (sX_at x10 x10) fun v13 => rd (inb v13 272) (w11.2.2 11 (Int32.toNatClampNeg v13)) fun v14 => nm v14 fun x15 => nm (0 : Int32) fun x16 => jn (fun w17 => nm x15 fun x19 => nm (x10 + (1 : Int32)) fun x20 => self12 x19 x20 w17) fun J18 => sX_solve_L27 x9 x10 x15 J18 x16 w11)) FU
def sX_solve (w : Wd)  : Option (Wd) :=
  nm (1 : Int64) fun x1 => nm (0 : Int32) fun x2 => jn (fun x3 w4 => jn (fun z6 => nm (stL w4 90 13 z6) fun w8 => some w8) fun J7 => if (w4.2.1 90 12) = 0 then (J7 (1 : Int64)) else (J7 x3)) fun J5 => sX_solve_L4 J5 x1 x2 w
abbrev rmX0_solve : Room := { frames := 1, cells := 0, slots := 0, locals := 21 }
theorem pkX0_solve : PkV yX0_solve RX0 cX0_solve 10 (none) 0 := ⟨q433, qs9, q57, q434, by decide +kernel⟩
set_option maxHeartbeats 4000000 in
theorem met_X0_solve (l : Launch) (D : va_G) (g : Nat → ClassId) (ad sd : Nat → Nat) (w : Wd)  (sz : Nat) (w' : Wd) (ho : sX_solve w = some w') : Met l yX0_solve (ws_ yX0_solve cX0_solve 10 (none)) rmX0_solve (va_Pc [.ref (ad 99)] (MPre D vwCl (tysG g) (cellsX g ad w) (NXX sd (cellsX g ad w)) sz)) (QcV D vwCl (tysG g) (cellsX g ad w') (va_A (cellsX g ad w) sz)) 0 0 (va_A (cellsX g ad w) sz) := by
  refine met_XJ (cw := cellsX g ad) (w := w) (cc := cX0_solve) (lv := [(0, .ref (ad 99))]) pnX0 _ (Nat.le_of_ble_eq_true rfl) rfl ?_
  intro p e s m args below meth c R Q A B hN hr hsz hA hmm hRm hQ hAe
  have hX : NXA sd A s := by rw [hAe, ← hsz]; exact hN
  unfold sX_solve at ho
  refine j_lconst (v := 1) B eX0_solve_0 rfl ?_
  refine j_lstore_n (lv' := fun x1 => [(0, .ref (ad 99)), (1, .long x1)]) B eX0_solve_1 [1, 0] (by decide) (fun _ => rfl) ho (fun x1 ho => ?_)
  refine j_const B eX0_solve_2 ?_
  refine j_istore_n (lv' := fun x2 => [(0, .ref (ad 99)), (1, .long x1), (3, .int x2)]) B eX0_solve_3 [1, 2, 0] (by decide) (fun _ => rfl) ho (fun x2 ho => ?_)
  refine jn2 (C := fun x3 w4 => XJ p l e R s m args below meth c 0 0 Q A D vwCl (cellsX g ad) 10 w4 135 [(0, .ref (ad 99)), (1, .long x3)] []) ho (fun x3 w4 ho => ?_) (fun J5 hJ5 ho => ?_)
  · refine j_aload_n B eX0_solve_135 0 rfl ?_
    refine j_aload_n B eX0_solve_136 0 rfl ?_
    refine gfX_12 B eX0_solve_137 ?_
    refine jn1 (C := fun z6 => XJ p l e R s m args below meth c 0 0 Q A D vwCl (cellsX g ad) 10 w4 148 [] [.long z6, .ref (ad 99)]) ho (fun z6 ho => ?_) (fun J7 hJ7 ho => ?_)
    · refine pfX_13 B eX0_solve_148 ho (fun w8 ho => ?_)
      exact j_vretw B hr hQ eX0_solve_151 ho
    · refine j_if_ne B eX0_solve_140 ho (fun _ ho => ?_) (fun _ ho => ?_)
      · refine j_lload_n B eX0_solve_147 1 rfl ?_
        refine j_lsub (lv' := []) [] rfl ?_
        exact hJ7 _ ho
      · refine j_lconst (v := 1) B eX0_solve_143 rfl ?_
        refine j_goto B eX0_solve_144 ?_
        refine j_lsub (lv' := []) [] rfl ?_
        exact hJ7 _ ho
  · unfold sX_solve_L4 at ho
    refine fx3 (C := fun x9 x10 w11 => XJ p l e R s m args below meth c 0 0 Q A D vwCl (cellsX g ad) 10 w11 4 [(0, .ref (ad 99)), (1, .long x9), (3, .int x10)] []) (fun self12 hself12 x9 x10 w11 ho => ?_) FU _ _ _ ho
    refine j_iload_n B eX0_solve_4 2 rfl ?_
    refine j_aload_n B eX0_solve_5 0 rfl ?_
    refine gfX_12 B eX0_solve_6 ?_
    refine j_icmp_ge B eX0_solve_9 ho (fun _ ho => ?_) (fun _ ho => ?_)
    · refine j_lsub (lv' := [(0, .ref (ad 99)), (1, .long x9)]) [0, 1] rfl ?_
      exact hJ5 _ _ ho
    · refine j_aload_n B eX0_solve_12 0 rfl ?_
      refine gfX_11 B eX0_solve_13 ?_
      refine j_iload_n B eX0_solve_16 2 rfl ?_
      refine j_iload_n B eX0_solve_17 2 rfl ?_
      refine j_callSi (As := [.int x10, .int x10]) B hA (met_X0_at l D _ _ _ x10 x10) NT_ok pkX0_at q428 rfl rfl hRm ⟨Nat.le_of_ble_eq_true rfl, Nat.le_of_ble_eq_true rfl⟩ rfl rfl (Nat.le_of_ble_eq_true rfl) ⟨Nat.zero_le _, Nat.zero_le _⟩ eX0_solve_18 ho (fun v13 ho => ?_)
      refine ldX_11 B eX0_solve_21 ho (fun v14 ho => ?_)
      refine j_lstore (lv' := fun x15 => [(0, .ref (ad 99)), (1, .long x9), (3, .int x10), (4, .long x15)]) B eX0_solve_22 [1, 2, 3, 0] (by decide) (fun _ => rfl) ho (fun x15 ho => ?_)
      refine j_const B eX0_solve_24 ?_
      refine j_istore (lv' := fun x16 => [(0, .ref (ad 99)), (1, .long x9), (3, .int x10), (4, .long x15), (6, .int x16)]) B eX0_solve_25 [1, 2, 3, 4, 0] (by decide) (fun _ => rfl) ho (fun x16 ho => ?_)
      refine jn1 (C := fun w17 => XJ p l e R s m args below meth c 0 0 Q A D vwCl (cellsX g ad) 10 w17 126 [(0, .ref (ad 99)), (3, .int x10), (4, .long x15)] []) ho (fun w17 ho => ?_) (fun J18 hJ18 ho => ?_)
      · refine j_lload B eX0_solve_126 2 rfl ?_
        refine j_lstore_n (lv' := fun x19 => [(0, .ref (ad 99)), (1, .long x19), (3, .int x10)]) B eX0_solve_128 [1, 0, 2] (by decide) (fun _ => rfl) ho (fun x19 ho => ?_)
        refine j_iinc (d := 1) (lv' := fun x20 => [(0, .ref (ad 99)), (1, .long x19), (3, .int x20)]) B eX0_solve_129 2 rfl (by decide) [1, 2, 0] (by decide) (fun _ => rfl) ho (fun x20 ho => ?_)
        refine j_goto B eX0_solve_132 ?_
        exact hself12 _ _ _ ho
      · unfold sX_solve_L27 at ho
        refine fx2 (C := fun x21 w22 => XJ p l e R s m args below meth c 0 0 Q A D vwCl (cellsX g ad) 10 w22 27 [(0, .ref (ad 99)), (1, .long x9), (3, .int x10), (4, .long x15), (6, .int x21)] []) (fun self23 hself23 x21 w22 ho => ?_) FU _ _ ho
        refine j_iload B eX0_solve_27 4 rfl ?_
        refine j_aload_n B eX0_solve_29 0 rfl ?_
        refine gfX_12 B eX0_solve_30 ?_
        refine j_icmp_ge B eX0_solve_33 ho (fun _ ho => ?_) (fun _ ho => ?_)
        · refine j_lsub (lv' := [(0, .ref (ad 99)), (3, .int x10), (4, .long x15)]) [0, 2, 3] rfl ?_
          exact hJ18 _ ho
        · refine j_iload B eX0_solve_36 4 rfl ?_
          refine j_iload_n B eX0_solve_38 2 rfl ?_
          refine j_icmp_ne B eX0_solve_39 ho (fun _ ho => ?_) (fun _ ho => ?_)
          · refine j_aload_n B eX0_solve_45 0 rfl ?_
            refine gfX_11 B eX0_solve_46 ?_
            refine j_iload B eX0_solve_49 4 rfl ?_
            refine j_iload_n B eX0_solve_51 2 rfl ?_
            refine j_callSi (As := [.int x21, .int x10]) B hA (met_X0_at l D _ _ _ x21 x10) NT_ok pkX0_at q428 rfl rfl hRm ⟨Nat.le_of_ble_eq_true rfl, Nat.le_of_ble_eq_true rfl⟩ rfl rfl (Nat.le_of_ble_eq_true rfl) ⟨Nat.zero_le _, Nat.zero_le _⟩ eX0_solve_52 ho (fun v24 ho => ?_)
            refine ldX_11 B eX0_solve_55 ho (fun v25 ho => ?_)
            refine j_lstore (lv' := fun x26 => [(0, .ref (ad 99)), (1, .long x9), (3, .int x10), (4, .long x15), (6, .int x21), (7, .long x26)]) B eX0_solve_56 [1, 2, 3, 4, 5, 0] (by decide) (fun _ => rfl) ho (fun x26 ho => ?_)
            refine j_const B eX0_solve_58 ?_
            refine j_istore (lv' := fun x27 => [(0, .ref (ad 99)), (1, .long x9), (3, .int x10), (4, .long x15), (6, .int x21), (7, .long x26), (9, .int x27)]) B eX0_solve_59 [1, 2, 3, 4, 5, 6, 0] (by decide) (fun _ => rfl) ho (fun x27 ho => ?_)
            unfold sX_solve_L61 at ho
            refine fx2 (C := fun x28 w29 => XJ p l e R s m args below meth c 0 0 Q A D vwCl (cellsX g ad) 10 w29 61 [(0, .ref (ad 99)), (1, .long x9), (3, .int x10), (4, .long x15), (6, .int x21), (7, .long x26), (9, .int x28)] []) (fun self30 hself30 x28 w29 ho => ?_) FU _ _ ho
            refine j_iload B eX0_solve_61 6 rfl ?_
            refine j_aload_n B eX0_solve_63 0 rfl ?_
            refine gfX_12 B eX0_solve_64 ?_
            refine j_icmp_gt B eX0_solve_67 ho (fun _ ho => ?_) (fun _ ho => ?_)
            · refine j_iinc (d := 1) (lv' := fun x31 => [(0, .ref (ad 99)), (1, .long x9), (3, .int x10), (4, .long x15), (6, .int x31)]) B eX0_solve_120 4 rfl (by decide) [1, 2, 3, 4, 0] (by decide) (fun _ => rfl) ho (fun x31 ho => ?_)
              refine j_goto B eX0_solve_123 ?_
              exact hself23 _ _ ho
            · refine j_aload_n B eX0_solve_70 0 rfl ?_
              refine gfX_11 B eX0_solve_71 ?_
              refine j_iload B eX0_solve_74 4 rfl ?_
              refine j_iload B eX0_solve_76 6 rfl ?_
              refine j_callSi (As := [.int x21, .int x28]) B hA (met_X0_at l D _ _ _ x21 x28) NT_ok pkX0_at q428 rfl rfl hRm ⟨Nat.le_of_ble_eq_true rfl, Nat.le_of_ble_eq_true rfl⟩ rfl rfl (Nat.le_of_ble_eq_true rfl) ⟨Nat.zero_le _, Nat.zero_le _⟩ eX0_solve_78 ho (fun v32 ho => ?_)
              refine j_aload_n B eX0_solve_81 0 rfl ?_
              refine gfX_11 B eX0_solve_82 ?_
              refine j_iload B eX0_solve_85 4 rfl ?_
              refine j_iload B eX0_solve_87 6 rfl ?_
              refine j_callSi (As := [.int x21, .int x28]) B hA (met_X0_at l D _ _ _ x21 x28) NT_ok pkX0_at q428 rfl rfl hRm ⟨Nat.le_of_ble_eq_true rfl, Nat.le_of_ble_eq_true rfl⟩ rfl rfl (Nat.le_of_ble_eq_true rfl) ⟨Nat.zero_le _, Nat.zero_le _⟩ eX0_solve_89 ho (fun v33 ho => ?_)
              refine ldX_11 B eX0_solve_92 ho (fun v34 ho => ?_)
              refine j_lload B eX0_solve_93 3 rfl ?_
              refine j_lmul B eX0_solve_95 ?_
              refine j_aload_n B eX0_solve_96 0 rfl ?_
              refine gfX_11 B eX0_solve_97 ?_
              refine j_iload_n B eX0_solve_100 2 rfl ?_
              refine j_iload B eX0_solve_101 6 rfl ?_
              refine j_callSi (As := [.int x10, .int x28]) B hA (met_X0_at l D _ _ _ x10 x28) NT_ok pkX0_at q428 rfl rfl hRm ⟨Nat.le_of_ble_eq_true rfl, Nat.le_of_ble_eq_true rfl⟩ rfl rfl (Nat.le_of_ble_eq_true rfl) ⟨Nat.zero_le _, Nat.zero_le _⟩ eX0_solve_103 ho (fun v35 ho => ?_)
              refine ldX_11 B eX0_solve_106 ho (fun v36 ho => ?_)
              refine j_lload B eX0_solve_107 5 rfl ?_
              refine j_lmul B eX0_solve_109 ?_
              refine j_lsubt B eX0_solve_110 ?_
              refine j_lload_n B eX0_solve_111 1 rfl ?_
              refine j_ldivG B eX0_solve_112 ho (fun v37 ho => ?_)
              refine stX_11 B eX0_solve_113 ho (fun w38 ho => ?_)
              refine j_iinc (d := 1) (lv' := fun x39 => [(0, .ref (ad 99)), (1, .long x9), (3, .int x10), (4, .long x15), (6, .int x21), (7, .long x26), (9, .int x39)]) B eX0_solve_114 6 rfl (by decide) [1, 2, 3, 4, 5, 6, 0] (by decide) (fun _ => rfl) ho (fun x39 ho => ?_)
              refine j_goto B eX0_solve_117 ?_
              exact hself30 _ _ ho
          · refine j_goto B eX0_solve_42 ?_
            refine j_iinc (d := 1) (lv' := fun x40 => [(0, .ref (ad 99)), (1, .long x9), (3, .int x10), (4, .long x15), (6, .int x40)]) B eX0_solve_120 4 rfl (by decide) [1, 2, 3, 4, 0] (by decide) (fun _ => rfl) ho (fun x40 ho => ?_)
            refine j_goto B eX0_solve_123 ?_
            exact hself23 _ _ ho
