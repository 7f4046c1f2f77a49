set_option maxRecDepth 100000
theorem eX1_isIn_0 : D1 cX1_isIn 0 (.lload_n 0) 1 := ⟨by decide +kernel, rfl⟩
theorem eX1_isIn_1 : D1 cX1_isIn 1 (.lload_n 2) 2 := ⟨by decide +kernel, rfl⟩
theorem eX1_isIn_2 : D1 cX1_isIn 2 (.lcmp) 3 := ⟨by decide +kernel, rfl⟩
theorem eX1_isIn_3 : DJ cX1_isIn 3 (.ifCond .lt) 17 6 := ⟨14, by decide +kernel, by decide, rfl⟩
theorem eX1_isIn_6 : D1 cX1_isIn 6 (.lload_n 0) 7 := ⟨by decide +kernel, rfl⟩
theorem eX1_isIn_7 : D2 cX1_isIn 7 (.lload 4) 9 := ⟨by decide +kernel, rfl⟩
theorem eX1_isIn_9 : D1 cX1_isIn 9 (.lcmp) 10 := ⟨by decide +kernel, rfl⟩
theorem eX1_isIn_10 : DJ cX1_isIn 10 (.ifCond .gt) 17 13 := ⟨7, by decide +kernel, by decide, rfl⟩
theorem eX1_isIn_13 : DC cX1_isIn 13 (1) 14 := Or.inl ⟨1, ⟨by decide +kernel, rfl⟩, by decide⟩
theorem eX1_isIn_14 : DJ cX1_isIn 14 .goto 18 17 := ⟨4, by decide +kernel, by decide, rfl⟩
theorem eX1_isIn_17 : DC cX1_isIn 17 (0) 18 := Or.inl ⟨0, ⟨by decide +kernel, rfl⟩, by decide⟩
theorem eX1_isIn_18 : D1 cX1_isIn 18 (.ireturn) 19 := ⟨by decide +kernel, rfl⟩
theorem eX1_oar_0 : D1 cX1_oar 0 (.iload_n 1) 1 := ⟨by decide +kernel, rfl⟩
theorem eX1_oar_1 : D1 cX1_oar 1 (.i2l) 2 := ⟨by decide +kernel, rfl⟩
theorem eX1_oar_2 : D1 cX1_oar 2 (.lconst 0) 3 := ⟨by decide +kernel, rfl⟩
theorem eX1_oar_3 : D3 cX1_oar 3 (.ldc2_w 153) 6 := ⟨by decide +kernel, rfl⟩
theorem eX1_oar_6 : D3 cX1_oar 6 (.invokestatic 155) 9 := ⟨by decide +kernel, rfl⟩
theorem eX1_oar_9 : DJ cX1_oar 9 (.ifCond .eq) 26 12 := ⟨17, by decide +kernel, by decide, rfl⟩
theorem eX1_oar_12 : D1 cX1_oar 12 (.iload_n 2) 13 := ⟨by decide +kernel, rfl⟩
theorem eX1_oar_13 : D1 cX1_oar 13 (.i2l) 14 := ⟨by decide +kernel, rfl⟩
theorem eX1_oar_14 : D3 cX1_oar 14 (.ldc2_w 159) 17 := ⟨by decide +kernel, rfl⟩
theorem eX1_oar_17 : D3 cX1_oar 17 (.ldc2_w 161) 20 := ⟨by decide +kernel, rfl⟩
theorem eX1_oar_20 : D3 cX1_oar 20 (.invokestatic 155) 23 := ⟨by decide +kernel, rfl⟩
theorem eX1_oar_23 : DJ cX1_oar 23 (.ifCond .ne) 29 26 := ⟨6, by decide +kernel, by decide, rfl⟩
theorem eX1_oar_26 : DC cX1_oar 26 (-2) 28 := Or.inr (Or.inl ⟨-2, ⟨by decide +kernel, rfl⟩, by decide⟩)
theorem eX1_oar_28 : D1 cX1_oar 28 (.ireturn) 29 := ⟨by decide +kernel, rfl⟩
theorem eX1_oar_29 : D1 cX1_oar 29 (.aload_n 0) 30 := ⟨by decide +kernel, rfl⟩
theorem eX1_oar_30 : D3 cX1_oar 30 (.getfield 136) 33 := ⟨by decide +kernel, rfl⟩
theorem eX1_oar_33 : DC cX1_oar 33 (16) 35 := Or.inr (Or.inl ⟨16, ⟨by decide +kernel, rfl⟩, by decide⟩)
theorem eX1_oar_35 : DJ cX1_oar 35 (.if_icmp .ne) 41 38 := ⟨6, by decide +kernel, by decide, rfl⟩
theorem eX1_oar_38 : DC cX1_oar 38 (-4) 40 := Or.inr (Or.inl ⟨-4, ⟨by decide +kernel, rfl⟩, by decide⟩)
theorem eX1_oar_40 : D1 cX1_oar 40 (.ireturn) 41 := ⟨by decide +kernel, rfl⟩
theorem eX1_oar_41 : D1 cX1_oar 41 (.aload_n 0) 42 := ⟨by decide +kernel, rfl⟩
theorem eX1_oar_42 : D3 cX1_oar 42 (.getfield 7) 45 := ⟨by decide +kernel, rfl⟩
theorem eX1_oar_45 : D1 cX1_oar 45 (.aload_n 0) 46 := ⟨by decide +kernel, rfl⟩
theorem eX1_oar_46 : D3 cX1_oar 46 (.getfield 136) 49 := ⟨by decide +kernel, rfl⟩
theorem eX1_oar_49 : D1 cX1_oar 49 (.iload_n 1) 50 := ⟨by decide +kernel, rfl⟩
theorem eX1_oar_50 : D1 cX1_oar 50 (.iastore) 51 := ⟨by decide +kernel, rfl⟩
theorem eX1_oar_51 : D1 cX1_oar 51 (.aload_n 0) 52 := ⟨by decide +kernel, rfl⟩
theorem eX1_oar_52 : D3 cX1_oar 52 (.getfield 13) 55 := ⟨by decide +kernel, rfl⟩
theorem eX1_oar_55 : D1 cX1_oar 55 (.aload_n 0) 56 := ⟨by decide +kernel, rfl⟩
theorem eX1_oar_56 : D3 cX1_oar 56 (.getfield 136) 59 := ⟨by decide +kernel, rfl⟩
theorem eX1_oar_59 : D1 cX1_oar 59 (.iload_n 2) 60 := ⟨by decide +kernel, rfl⟩
theorem eX1_oar_60 : D1 cX1_oar 60 (.iastore) 61 := ⟨by decide +kernel, rfl⟩
theorem eX1_oar_61 : D1 cX1_oar 61 (.aload_n 0) 62 := ⟨by decide +kernel, rfl⟩
theorem eX1_oar_62 : D3 cX1_oar 62 (.getfield 16) 65 := ⟨by decide +kernel, rfl⟩
theorem eX1_oar_65 : D1 cX1_oar 65 (.aload_n 0) 66 := ⟨by decide +kernel, rfl⟩
theorem eX1_oar_66 : D3 cX1_oar 66 (.getfield 136) 69 := ⟨by decide +kernel, rfl⟩
theorem eX1_oar_69 : DC cX1_oar 69 (-1) 70 := Or.inl ⟨-1, ⟨by decide +kernel, rfl⟩, by decide⟩
theorem eX1_oar_70 : D1 cX1_oar 70 (.iastore) 71 := ⟨by decide +kernel, rfl⟩
theorem eX1_oar_71 : D1 cX1_oar 71 (.aload_n 0) 72 := ⟨by decide +kernel, rfl⟩
theorem eX1_oar_72 : D1 cX1_oar 72 (.dup) 73 := ⟨by decide +kernel, rfl⟩
theorem eX1_oar_73 : D3 cX1_oar 73 (.getfield 136) 76 := ⟨by decide +kernel, rfl⟩
theorem eX1_oar_76 : DC cX1_oar 76 (1) 77 := Or.inl ⟨1, ⟨by decide +kernel, rfl⟩, by decide⟩
theorem eX1_oar_77 : D1 cX1_oar 77 (.iadd) 78 := ⟨by decide +kernel, rfl⟩
theorem eX1_oar_78 : D3 cX1_oar 78 (.putfield 136) 81 := ⟨by decide +kernel, rfl⟩
theorem eX1_oar_81 : D1 cX1_oar 81 (.aload_n 0) 82 := ⟨by decide +kernel, rfl⟩
theorem eX1_oar_82 : D3 cX1_oar 82 (.getfield 136) 85 := ⟨by decide +kernel, rfl⟩
theorem eX1_oar_85 : DC cX1_oar 85 (1) 86 := Or.inl ⟨1, ⟨by decide +kernel, rfl⟩, by decide⟩
theorem eX1_oar_86 : D1 cX1_oar 86 (.isub) 87 := ⟨by decide +kernel, rfl⟩
theorem eX1_oar_87 : D1 cX1_oar 87 (.ireturn) 88 := ⟨by decide +kernel, rfl⟩
theorem eX1_boat_0 : D1 cX1_boat 0 (.iload_n 1) 1 := ⟨by decide +kernel, rfl⟩
theorem eX1_boat_1 : D1 cX1_boat 1 (.i2l) 2 := ⟨by decide +kernel, rfl⟩
theorem eX1_boat_2 : D1 cX1_boat 2 (.lconst 0) 3 := ⟨by decide +kernel, rfl⟩
theorem eX1_boat_3 : D3 cX1_boat 3 (.ldc2_w 153) 6 := ⟨by decide +kernel, rfl⟩
theorem eX1_boat_6 : D3 cX1_boat 6 (.invokestatic 155) 9 := ⟨by decide +kernel, rfl⟩
theorem eX1_boat_9 : DJ cX1_boat 9 (.ifCond .eq) 52 12 := ⟨43, by decide +kernel, by decide, rfl⟩
theorem eX1_boat_12 : D1 cX1_boat 12 (.iload_n 2) 13 := ⟨by decide +kernel, rfl⟩
theorem eX1_boat_13 : D1 cX1_boat 13 (.i2l) 14 := ⟨by decide +kernel, rfl⟩
theorem eX1_boat_14 : D3 cX1_boat 14 (.ldc2_w 159) 17 := ⟨by decide +kernel, rfl⟩
theorem eX1_boat_17 : D3 cX1_boat 17 (.ldc2_w 161) 20 := ⟨by decide +kernel, rfl⟩
theorem eX1_boat_20 : D3 cX1_boat 20 (.invokestatic 155) 23 := ⟨by decide +kernel, rfl⟩
theorem eX1_boat_23 : DJ cX1_boat 23 (.ifCond .eq) 52 26 := ⟨29, by decide +kernel, by decide, rfl⟩
theorem eX1_boat_26 : D1 cX1_boat 26 (.iload_n 3) 27 := ⟨by decide +kernel, rfl⟩
theorem eX1_boat_27 : D1 cX1_boat 27 (.i2l) 28 := ⟨by decide +kernel, rfl⟩
theorem eX1_boat_28 : D1 cX1_boat 28 (.iload_n 2) 29 := ⟨by decide +kernel, rfl⟩
theorem eX1_boat_29 : D1 cX1_boat 29 (.i2l) 30 := ⟨by decide +kernel, rfl⟩
theorem eX1_boat_30 : D3 cX1_boat 30 (.ldc2_w 161) 33 := ⟨by decide +kernel, rfl⟩
theorem eX1_boat_33 : D3 cX1_boat 33 (.invokestatic 155) 36 := ⟨by decide +kernel, rfl⟩
theorem eX1_boat_36 : DJ cX1_boat 36 (.ifCond .eq) 52 39 := ⟨16, by decide +kernel, by decide, rfl⟩
theorem eX1_boat_39 : D2 cX1_boat 39 (.iload 4) 41 := ⟨by decide +kernel, rfl⟩
theorem eX1_boat_41 : D1 cX1_boat 41 (.i2l) 42 := ⟨by decide +kernel, rfl⟩
theorem eX1_boat_42 : D1 cX1_boat 42 (.lconst 1) 43 := ⟨by decide +kernel, rfl⟩
theorem eX1_boat_43 : D3 cX1_boat 43 (.ldc2_w 163) 46 := ⟨by decide +kernel, rfl⟩
theorem eX1_boat_46 : D3 cX1_boat 46 (.invokestatic 155) 49 := ⟨by decide +kernel, rfl⟩
theorem eX1_boat_49 : DJ cX1_boat 49 (.ifCond .ne) 55 52 := ⟨6, by decide +kernel, by decide, rfl⟩
theorem eX1_boat_52 : DC cX1_boat 52 (-2) 54 := Or.inr (Or.inl ⟨-2, ⟨by decide +kernel, rfl⟩, by decide⟩)
theorem eX1_boat_54 : D1 cX1_boat 54 (.ireturn) 55 := ⟨by decide +kernel, rfl⟩
theorem eX1_boat_55 : D1 cX1_boat 55 (.aload_n 0) 56 := ⟨by decide +kernel, rfl⟩
theorem eX1_boat_56 : D3 cX1_boat 56 (.getfield 139) 59 := ⟨by decide +kernel, rfl⟩
theorem eX1_boat_59 : DC cX1_boat 59 (8) 61 := Or.inr (Or.inl ⟨8, ⟨by decide +kernel, rfl⟩, by decide⟩)
theorem eX1_boat_61 : DJ cX1_boat 61 (.if_icmp .ne) 67 64 := ⟨6, by decide +kernel, by decide, rfl⟩
theorem eX1_boat_64 : DC cX1_boat 64 (-4) 66 := Or.inr (Or.inl ⟨-4, ⟨by decide +kernel, rfl⟩, by decide⟩)
theorem eX1_boat_66 : D1 cX1_boat 66 (.ireturn) 67 := ⟨by decide +kernel, rfl⟩
theorem eX1_boat_67 : D1 cX1_boat 67 (.aload_n 0) 68 := ⟨by decide +kernel, rfl⟩
theorem eX1_boat_68 : D3 cX1_boat 68 (.getfield 29) 71 := ⟨by decide +kernel, rfl⟩
theorem eX1_boat_71 : D1 cX1_boat 71 (.aload_n 0) 72 := ⟨by decide +kernel, rfl⟩
theorem eX1_boat_72 : D3 cX1_boat 72 (.getfield 139) 75 := ⟨by decide +kernel, rfl⟩
theorem eX1_boat_75 : D1 cX1_boat 75 (.iload_n 1) 76 := ⟨by decide +kernel, rfl⟩
theorem eX1_boat_76 : D1 cX1_boat 76 (.iastore) 77 := ⟨by decide +kernel, rfl⟩
theorem eX1_boat_77 : D1 cX1_boat 77 (.aload_n 0) 78 := ⟨by decide +kernel, rfl⟩
theorem eX1_boat_78 : D3 cX1_boat 78 (.getfield 32) 81 := ⟨by decide +kernel, rfl⟩
theorem eX1_boat_81 : D1 cX1_boat 81 (.aload_n 0) 82 := ⟨by decide +kernel, rfl⟩
theorem eX1_boat_82 : D3 cX1_boat 82 (.getfield 139) 85 := ⟨by decide +kernel, rfl⟩
theorem eX1_boat_85 : D1 cX1_boat 85 (.iload_n 2) 86 := ⟨by decide +kernel, rfl⟩
theorem eX1_boat_86 : D1 cX1_boat 86 (.iastore) 87 := ⟨by decide +kernel, rfl⟩
theorem eX1_boat_87 : D1 cX1_boat 87 (.aload_n 0) 88 := ⟨by decide +kernel, rfl⟩
theorem eX1_boat_88 : D3 cX1_boat 88 (.getfield 35) 91 := ⟨by decide +kernel, rfl⟩
theorem eX1_boat_91 : D1 cX1_boat 91 (.aload_n 0) 92 := ⟨by decide +kernel, rfl⟩
theorem eX1_boat_92 : D3 cX1_boat 92 (.getfield 139) 95 := ⟨by decide +kernel, rfl⟩
theorem eX1_boat_95 : D1 cX1_boat 95 (.iload_n 3) 96 := ⟨by decide +kernel, rfl⟩
theorem eX1_boat_96 : D1 cX1_boat 96 (.iastore) 97 := ⟨by decide +kernel, rfl⟩
theorem eX1_boat_97 : D1 cX1_boat 97 (.aload_n 0) 98 := ⟨by decide +kernel, rfl⟩
theorem eX1_boat_98 : D3 cX1_boat 98 (.getfield 38) 101 := ⟨by decide +kernel, rfl⟩
theorem eX1_boat_101 : D1 cX1_boat 101 (.aload_n 0) 102 := ⟨by decide +kernel, rfl⟩
theorem eX1_boat_102 : D3 cX1_boat 102 (.getfield 139) 105 := ⟨by decide +kernel, rfl⟩
theorem eX1_boat_105 : D2 cX1_boat 105 (.iload 4) 107 := ⟨by decide +kernel, rfl⟩
theorem eX1_boat_107 : D1 cX1_boat 107 (.iastore) 108 := ⟨by decide +kernel, rfl⟩
theorem eX1_boat_108 : D1 cX1_boat 108 (.aload_n 0) 109 := ⟨by decide +kernel, rfl⟩
theorem eX1_boat_109 : D1 cX1_boat 109 (.dup) 110 := ⟨by decide +kernel, rfl⟩
theorem eX1_boat_110 : D3 cX1_boat 110 (.getfield 139) 113 := ⟨by decide +kernel, rfl⟩
theorem eX1_boat_113 : DC cX1_boat 113 (1) 114 := Or.inl ⟨1, ⟨by decide +kernel, rfl⟩, by decide⟩
theorem eX1_boat_114 : D1 cX1_boat 114 (.iadd) 115 := ⟨by decide +kernel, rfl⟩
theorem eX1_boat_115 : D3 cX1_boat 115 (.putfield 139) 118 := ⟨by decide +kernel, rfl⟩
theorem eX1_boat_118 : D1 cX1_boat 118 (.aload_n 0) 119 := ⟨by decide +kernel, rfl⟩
theorem eX1_boat_119 : D3 cX1_boat 119 (.getfield 139) 122 := ⟨by decide +kernel, rfl⟩
theorem eX1_boat_122 : DC cX1_boat 122 (1) 123 := Or.inl ⟨1, ⟨by decide +kernel, rfl⟩, by decide⟩
theorem eX1_boat_123 : D1 cX1_boat 123 (.isub) 124 := ⟨by decide +kernel, rfl⟩
theorem eX1_boat_124 : D1 cX1_boat 124 (.ireturn) 125 := ⟨by decide +kernel, rfl⟩
theorem eX1_isOar_0 : D1 cX1_isOar 0 (.iload_n 1) 1 := ⟨by decide +kernel, rfl⟩
theorem eX1_isOar_1 : DJ cX1_isOar 1 (.ifCond .lt) 16 4 := ⟨15, by decide +kernel, by decide, rfl⟩
theorem eX1_isOar_4 : D1 cX1_isOar 4 (.iload_n 1) 5 := ⟨by decide +kernel, rfl⟩
theorem eX1_isOar_5 : D1 cX1_isOar 5 (.aload_n 0) 6 := ⟨by decide +kernel, rfl⟩
theorem eX1_isOar_6 : D3 cX1_isOar 6 (.getfield 136) 9 := ⟨by decide +kernel, rfl⟩
theorem eX1_isOar_9 : DJ cX1_isOar 9 (.if_icmp .ge) 16 12 := ⟨7, by decide +kernel, by decide, rfl⟩
theorem eX1_isOar_12 : DC cX1_isOar 12 (1) 13 := Or.inl ⟨1, ⟨by decide +kernel, rfl⟩, by decide⟩
theorem eX1_isOar_13 : DJ cX1_isOar 13 .goto 17 16 := ⟨4, by decide +kernel, by decide, rfl⟩
theorem eX1_isOar_16 : DC cX1_isOar 16 (0) 17 := Or.inl ⟨0, ⟨by decide +kernel, rfl⟩, by decide⟩
theorem eX1_isOar_17 : D1 cX1_isOar 17 (.ireturn) 18 := ⟨by decide +kernel, rfl⟩
theorem eX1_ill_0 : D1 cX1_ill 0 (.aload_n 0) 1 := ⟨by decide +kernel, rfl⟩
theorem eX1_ill_1 : D1 cX1_ill 1 (.iload_n 1) 2 := ⟨by decide +kernel, rfl⟩
theorem eX1_ill_2 : D3 cX1_ill 2 (.invokevirtual 165) 5 := ⟨by decide +kernel, rfl⟩
theorem eX1_ill_5 : DJ cX1_ill 5 (.ifCond .ne) 10 8 := ⟨5, by decide +kernel, by decide, rfl⟩
theorem eX1_ill_8 : DC cX1_ill 8 (-1) 9 := Or.inl ⟨-1, ⟨by decide +kernel, rfl⟩, by decide⟩
theorem eX1_ill_9 : D1 cX1_ill 9 (.ireturn) 10 := ⟨by decide +kernel, rfl⟩
theorem eX1_ill_10 : D1 cX1_ill 10 (.iload_n 2) 11 := ⟨by decide +kernel, rfl⟩
theorem eX1_ill_11 : D1 cX1_ill 11 (.i2l) 12 := ⟨by decide +kernel, rfl⟩
theorem eX1_ill_12 : D1 cX1_ill 12 (.lconst 0) 13 := ⟨by decide +kernel, rfl⟩
theorem eX1_ill_13 : D1 cX1_ill 13 (.lconst 1) 14 := ⟨by decide +kernel, rfl⟩
theorem eX1_ill_14 : D3 cX1_ill 14 (.invokestatic 155) 17 := ⟨by decide +kernel, rfl⟩
theorem eX1_ill_17 : DJ cX1_ill 17 (.ifCond .ne) 23 20 := ⟨6, by decide +kernel, by decide, rfl⟩
theorem eX1_ill_20 : DC cX1_ill 20 (-2) 22 := Or.inr (Or.inl ⟨-2, ⟨by decide +kernel, rfl⟩, by decide⟩)
theorem eX1_ill_22 : D1 cX1_ill 22 (.ireturn) 23 := ⟨by decide +kernel, rfl⟩
theorem eX1_ill_23 : D1 cX1_ill 23 (.aload_n 0) 24 := ⟨by decide +kernel, rfl⟩
theorem eX1_ill_24 : D3 cX1_ill 24 (.getfield 22) 27 := ⟨by decide +kernel, rfl⟩
theorem eX1_ill_27 : D1 cX1_ill 27 (.iload_n 1) 28 := ⟨by decide +kernel, rfl⟩
theorem eX1_ill_28 : D1 cX1_ill 28 (.baload) 29 := ⟨by decide +kernel, rfl⟩
theorem eX1_ill_29 : DJ cX1_ill 29 (.ifCond .eq) 36 32 := ⟨7, by decide +kernel, by decide, rfl⟩
theorem eX1_ill_32 : DC cX1_ill 32 (1) 33 := Or.inl ⟨1, ⟨by decide +kernel, rfl⟩, by decide⟩
theorem eX1_ill_33 : DJ cX1_ill 33 .goto 37 36 := ⟨4, by decide +kernel, by decide, rfl⟩
theorem eX1_ill_36 : DC cX1_ill 36 (0) 37 := Or.inl ⟨0, ⟨by decide +kernel, rfl⟩, by decide⟩
theorem eX1_ill_37 : D1 cX1_ill 37 (.istore_n 3) 38 := ⟨by decide +kernel, rfl⟩
theorem eX1_ill_38 : D1 cX1_ill 38 (.aload_n 0) 39 := ⟨by decide +kernel, rfl⟩
theorem eX1_ill_39 : D3 cX1_ill 39 (.getfield 22) 42 := ⟨by decide +kernel, rfl⟩
theorem eX1_ill_42 : D1 cX1_ill 42 (.iload_n 1) 43 := ⟨by decide +kernel, rfl⟩
theorem eX1_ill_43 : D1 cX1_ill 43 (.iload_n 2) 44 := ⟨by decide +kernel, rfl⟩
theorem eX1_ill_44 : DC cX1_ill 44 (1) 45 := Or.inl ⟨1, ⟨by decide +kernel, rfl⟩, by decide⟩
theorem eX1_ill_45 : DJ cX1_ill 45 (.if_icmp .ne) 52 48 := ⟨7, by decide +kernel, by decide, rfl⟩
theorem eX1_ill_48 : DC cX1_ill 48 (1) 49 := Or.inl ⟨1, ⟨by decide +kernel, rfl⟩, by decide⟩
theorem eX1_ill_49 : DJ cX1_ill 49 .goto 53 52 := ⟨4, by decide +kernel, by decide, rfl⟩
theorem eX1_ill_52 : DC cX1_ill 52 (0) 53 := Or.inl ⟨0, ⟨by decide +kernel, rfl⟩, by decide⟩
theorem eX1_ill_53 : D1 cX1_ill 53 (.bastore) 54 := ⟨by decide +kernel, rfl⟩
theorem eX1_ill_54 : D1 cX1_ill 54 (.iload_n 3) 55 := ⟨by decide +kernel, rfl⟩
theorem eX1_ill_55 : D1 cX1_ill 55 (.ireturn) 56 := ⟨by decide +kernel, rfl⟩
theorem eX1_isBoat_0 : D1 cX1_isBoat 0 (.iload_n 1) 1 := ⟨by decide +kernel, rfl⟩
theorem eX1_isBoat_1 : DJ cX1_isBoat 1 (.ifCond .lt) 16 4 := ⟨15, by decide +kernel, by decide, rfl⟩
theorem eX1_isBoat_4 : D1 cX1_isBoat 4 (.iload_n 1) 5 := ⟨by decide +kernel, rfl⟩
theorem eX1_isBoat_5 : D1 cX1_isBoat 5 (.aload_n 0) 6 := ⟨by decide +kernel, rfl⟩
theorem eX1_isBoat_6 : D3 cX1_isBoat 6 (.getfield 139) 9 := ⟨by decide +kernel, rfl⟩
theorem eX1_isBoat_9 : DJ cX1_isBoat 9 (.if_icmp .ge) 16 12 := ⟨7, by decide +kernel, by decide, rfl⟩
theorem eX1_isBoat_12 : DC cX1_isBoat 12 (1) 13 := Or.inl ⟨1, ⟨by decide +kernel, rfl⟩, by decide⟩
theorem eX1_isBoat_13 : DJ cX1_isBoat 13 .goto 17 16 := ⟨4, by decide +kernel, by decide, rfl⟩
theorem eX1_isBoat_16 : DC cX1_isBoat 16 (0) 17 := Or.inl ⟨0, ⟨by decide +kernel, rfl⟩, by decide⟩
theorem eX1_isBoat_17 : D1 cX1_isBoat 17 (.ireturn) 18 := ⟨by decide +kernel, rfl⟩
theorem eX1_seatsOf_0 : D1 cX1_seatsOf 0 (.aload_n 0) 1 := ⟨by decide +kernel, rfl⟩
theorem eX1_seatsOf_1 : D3 cX1_seatsOf 1 (.getfield 29) 4 := ⟨by decide +kernel, rfl⟩
theorem eX1_seatsOf_4 : D1 cX1_seatsOf 4 (.iload_n 1) 5 := ⟨by decide +kernel, rfl⟩
theorem eX1_seatsOf_5 : D1 cX1_seatsOf 5 (.iaload) 6 := ⟨by decide +kernel, rfl⟩
theorem eX1_seatsOf_6 : D1 cX1_seatsOf 6 (.istore_n 2) 7 := ⟨by decide +kernel, rfl⟩
theorem eX1_seatsOf_7 : D1 cX1_seatsOf 7 (.iload_n 2) 8 := ⟨by decide +kernel, rfl⟩
theorem eX1_seatsOf_8 : DJ cX1_seatsOf 8 (.ifCond .ne) 15 11 := ⟨7, by decide +kernel, by decide, rfl⟩
theorem eX1_seatsOf_11 : DC cX1_seatsOf 11 (2) 12 := Or.inl ⟨2, ⟨by decide +kernel, rfl⟩, by decide⟩
theorem eX1_seatsOf_12 : DJ cX1_seatsOf 12 .goto 35 15 := ⟨23, by decide +kernel, by decide, rfl⟩
theorem eX1_seatsOf_15 : D1 cX1_seatsOf 15 (.iload_n 2) 16 := ⟨by decide +kernel, rfl⟩
theorem eX1_seatsOf_16 : DC cX1_seatsOf 16 (2) 17 := Or.inl ⟨2, ⟨by decide +kernel, rfl⟩, by decide⟩
theorem eX1_seatsOf_17 : DJ cX1_seatsOf 17 (.if_icmp .ne) 25 20 := ⟨8, by decide +kernel, by decide, rfl⟩
theorem eX1_seatsOf_20 : DC cX1_seatsOf 20 (8) 22 := Or.inr (Or.inl ⟨8, ⟨by decide +kernel, rfl⟩, by decide⟩)
theorem eX1_seatsOf_22 : DJ cX1_seatsOf 22 .goto 35 25 := ⟨13, by decide +kernel, by decide, rfl⟩
theorem eX1_seatsOf_25 : D1 cX1_seatsOf 25 (.iload_n 2) 26 := ⟨by decide +kernel, rfl⟩
theorem eX1_seatsOf_26 : DC cX1_seatsOf 26 (3) 27 := Or.inl ⟨3, ⟨by decide +kernel, rfl⟩, by decide⟩
theorem eX1_seatsOf_27 : DJ cX1_seatsOf 27 (.if_icmp .ne) 34 30 := ⟨7, by decide +kernel, by decide, rfl⟩
theorem eX1_seatsOf_30 : DC cX1_seatsOf 30 (1) 31 := Or.inl ⟨1, ⟨by decide +kernel, rfl⟩, by decide⟩
theorem eX1_seatsOf_31 : DJ cX1_seatsOf 31 .goto 35 34 := ⟨4, by decide +kernel, by decide, rfl⟩
theorem eX1_seatsOf_34 : DC cX1_seatsOf 34 (4) 35 := Or.inl ⟨4, ⟨by decide +kernel, rfl⟩, by decide⟩
theorem eX1_seatsOf_35 : D1 cX1_seatsOf 35 (.ireturn) 36 := ⟨by decide +kernel, rfl⟩
theorem eX1_hasCox_0 : D1 cX1_hasCox 0 (.aload_n 0) 1 := ⟨by decide +kernel, rfl⟩
theorem eX1_hasCox_1 : D3 cX1_hasCox 1 (.getfield 29) 4 := ⟨by decide +kernel, rfl⟩
theorem eX1_hasCox_4 : D1 cX1_hasCox 4 (.iload_n 1) 5 := ⟨by decide +kernel, rfl⟩
theorem eX1_hasCox_5 : D1 cX1_hasCox 5 (.iaload) 6 := ⟨by decide +kernel, rfl⟩
theorem eX1_hasCox_6 : DC cX1_hasCox 6 (1) 7 := Or.inl ⟨1, ⟨by decide +kernel, rfl⟩, by decide⟩
theorem eX1_hasCox_7 : DJ cX1_hasCox 7 (.if_icmp .eq) 20 10 := ⟨13, by decide +kernel, by decide, rfl⟩
theorem eX1_hasCox_10 : D1 cX1_hasCox 10 (.aload_n 0) 11 := ⟨by decide +kernel, rfl⟩
theorem eX1_hasCox_11 : D3 cX1_hasCox 11 (.getfield 29) 14 := ⟨by decide +kernel, rfl⟩
theorem eX1_hasCox_14 : D1 cX1_hasCox 14 (.iload_n 1) 15 := ⟨by decide +kernel, rfl⟩
theorem eX1_hasCox_15 : D1 cX1_hasCox 15 (.iaload) 16 := ⟨by decide +kernel, rfl⟩
theorem eX1_hasCox_16 : DC cX1_hasCox 16 (2) 17 := Or.inl ⟨2, ⟨by decide +kernel, rfl⟩, by decide⟩
theorem eX1_hasCox_17 : DJ cX1_hasCox 17 (.if_icmp .ne) 24 20 := ⟨7, by decide +kernel, by decide, rfl⟩
theorem eX1_hasCox_20 : DC cX1_hasCox 20 (1) 21 := Or.inl ⟨1, ⟨by decide +kernel, rfl⟩, by decide⟩
theorem eX1_hasCox_21 : DJ cX1_hasCox 21 .goto 25 24 := ⟨4, by decide +kernel, by decide, rfl⟩
theorem eX1_hasCox_24 : DC cX1_hasCox 24 (0) 25 := Or.inl ⟨0, ⟨by decide +kernel, rfl⟩, by decide⟩
theorem eX1_hasCox_25 : D1 cX1_hasCox 25 (.ireturn) 26 := ⟨by decide +kernel, rfl⟩
theorem eX1_isSeat_0 : D1 cX1_isSeat 0 (.aload_n 0) 1 := ⟨by decide +kernel, rfl⟩
theorem eX1_isSeat_1 : D1 cX1_isSeat 1 (.iload_n 1) 2 := ⟨by decide +kernel, rfl⟩
theorem eX1_isSeat_2 : D3 cX1_isSeat 2 (.invokevirtual 142) 5 := ⟨by decide +kernel, rfl⟩
theorem eX1_isSeat_5 : DJ cX1_isSeat 5 (.ifCond .eq) 39 8 := ⟨34, by decide +kernel, by decide, rfl⟩
theorem eX1_isSeat_8 : D1 cX1_isSeat 8 (.iload_n 2) 9 := ⟨by decide +kernel, rfl⟩
theorem eX1_isSeat_9 : DJ cX1_isSeat 9 (.ifCond .lt) 21 12 := ⟨12, by decide +kernel, by decide, rfl⟩
theorem eX1_isSeat_12 : D1 cX1_isSeat 12 (.iload_n 2) 13 := ⟨by decide +kernel, rfl⟩
theorem eX1_isSeat_13 : D1 cX1_isSeat 13 (.aload_n 0) 14 := ⟨by decide +kernel, rfl⟩
theorem eX1_isSeat_14 : D1 cX1_isSeat 14 (.iload_n 1) 15 := ⟨by decide +kernel, rfl⟩
theorem eX1_isSeat_15 : D3 cX1_isSeat 15 (.invokevirtual 146) 18 := ⟨by decide +kernel, rfl⟩
theorem eX1_isSeat_18 : DJ cX1_isSeat 18 (.if_icmp .lt) 35 21 := ⟨17, by decide +kernel, by decide, rfl⟩
theorem eX1_isSeat_21 : D1 cX1_isSeat 21 (.iload_n 2) 22 := ⟨by decide +kernel, rfl⟩
theorem eX1_isSeat_22 : DC cX1_isSeat 22 (8) 24 := Or.inr (Or.inl ⟨8, ⟨by decide +kernel, rfl⟩, by decide⟩)
theorem eX1_isSeat_24 : DJ cX1_isSeat 24 (.if_icmp .ne) 39 27 := ⟨15, by decide +kernel, by decide, rfl⟩
theorem eX1_isSeat_27 : D1 cX1_isSeat 27 (.aload_n 0) 28 := ⟨by decide +kernel, rfl⟩
theorem eX1_isSeat_28 : D1 cX1_isSeat 28 (.iload_n 1) 29 := ⟨by decide +kernel, rfl⟩
theorem eX1_isSeat_29 : D3 cX1_isSeat 29 (.invokevirtual 150) 32 := ⟨by decide +kernel, rfl⟩
theorem eX1_isSeat_32 : DJ cX1_isSeat 32 (.ifCond .eq) 39 35 := ⟨7, by decide +kernel, by decide, rfl⟩
theorem eX1_isSeat_35 : DC cX1_isSeat 35 (1) 36 := Or.inl ⟨1, ⟨by decide +kernel, rfl⟩, by decide⟩
theorem eX1_isSeat_36 : DJ cX1_isSeat 36 .goto 40 39 := ⟨4, by decide +kernel, by decide, rfl⟩
theorem eX1_isSeat_39 : DC cX1_isSeat 39 (0) 40 := Or.inl ⟨0, ⟨by decide +kernel, rfl⟩, by decide⟩
theorem eX1_isSeat_40 : D1 cX1_isSeat 40 (.ireturn) 41 := ⟨by decide +kernel, rfl⟩
theorem eX1_sitter_0 : DC cX1_sitter 0 (-1) 1 := Or.inl ⟨-1, ⟨by decide +kernel, rfl⟩, by decide⟩
theorem eX1_sitter_1 : D1 cX1_sitter 1 (.istore_n 3) 2 := ⟨by decide +kernel, rfl⟩
theorem eX1_sitter_2 : DC cX1_sitter 2 (0) 3 := Or.inl ⟨0, ⟨by decide +kernel, rfl⟩, by decide⟩
theorem eX1_sitter_3 : D2 cX1_sitter 3 (.istore 4) 5 := ⟨by decide +kernel, rfl⟩
theorem eX1_sitter_5 : D2 cX1_sitter 5 (.iload 4) 7 := ⟨by decide +kernel, rfl⟩
theorem eX1_sitter_7 : D1 cX1_sitter 7 (.aload_n 0) 8 := ⟨by decide +kernel, rfl⟩
theorem eX1_sitter_8 : D3 cX1_sitter 8 (.getfield 136) 11 := ⟨by decide +kernel, rfl⟩
theorem eX1_sitter_11 : DJ cX1_sitter 11 (.if_icmp .ge) 49 14 := ⟨38, by decide +kernel, by decide, rfl⟩
theorem eX1_sitter_14 : D1 cX1_sitter 14 (.aload_n 0) 15 := ⟨by decide +kernel, rfl⟩
theorem eX1_sitter_15 : D3 cX1_sitter 15 (.getfield 16) 18 := ⟨by decide +kernel, rfl⟩
theorem eX1_sitter_18 : D2 cX1_sitter 18 (.iload 4) 20 := ⟨by decide +kernel, rfl⟩
theorem eX1_sitter_20 : D1 cX1_sitter 20 (.iaload) 21 := ⟨by decide +kernel, rfl⟩
theorem eX1_sitter_21 : D1 cX1_sitter 21 (.iload_n 1) 22 := ⟨by decide +kernel, rfl⟩
theorem eX1_sitter_22 : DJ cX1_sitter 22 (.if_icmp .ne) 41 25 := ⟨19, by decide +kernel, by decide, rfl⟩
theorem eX1_sitter_25 : D1 cX1_sitter 25 (.aload_n 0) 26 := ⟨by decide +kernel, rfl⟩
theorem eX1_sitter_26 : D3 cX1_sitter 26 (.getfield 19) 29 := ⟨by decide +kernel, rfl⟩
theorem eX1_sitter_29 : D2 cX1_sitter 29 (.iload 4) 31 := ⟨by decide +kernel, rfl⟩
theorem eX1_sitter_31 : D1 cX1_sitter 31 (.iaload) 32 := ⟨by decide +kernel, rfl⟩
theorem eX1_sitter_32 : D1 cX1_sitter 32 (.iload_n 2) 33 := ⟨by decide +kernel, rfl⟩
theorem eX1_sitter_33 : DJ cX1_sitter 33 (.if_icmp .ne) 41 36 := ⟨8, by decide +kernel, by decide, rfl⟩
theorem eX1_sitter_36 : D2 cX1_sitter 36 (.iload 4) 38 := ⟨by decide +kernel, rfl⟩
theorem eX1_sitter_38 : DJ cX1_sitter 38 .goto 42 41 := ⟨4, by decide +kernel, by decide, rfl⟩
theorem eX1_sitter_41 : D1 cX1_sitter 41 (.iload_n 3) 42 := ⟨by decide +kernel, rfl⟩
theorem eX1_sitter_42 : D1 cX1_sitter 42 (.istore_n 3) 43 := ⟨by decide +kernel, rfl⟩
theorem eX1_sitter_43 : D3 cX1_sitter 43 (.iinc 4 1) 46 := ⟨by decide +kernel, rfl⟩
theorem eX1_sitter_46 : DJ cX1_sitter 46 .goto 5 49 := ⟨-41, by decide +kernel, by decide, rfl⟩
theorem eX1_sitter_49 : D1 cX1_sitter 49 (.iload_n 3) 50 := ⟨by decide +kernel, rfl⟩
theorem eX1_sitter_50 : D1 cX1_sitter 50 (.ireturn) 51 := ⟨by decide +kernel, rfl⟩
theorem eX1_sit_0 : D1 cX1_sit 0 (.aload_n 0) 1 := ⟨by decide +kernel, rfl⟩
theorem eX1_sit_1 : D1 cX1_sit 1 (.iload_n 1) 2 := ⟨by decide +kernel, rfl⟩
theorem eX1_sit_2 : D1 cX1_sit 2 (.iload_n 2) 3 := ⟨by decide +kernel, rfl⟩
theorem eX1_sit_3 : D3 cX1_sit 3 (.invokevirtual 168) 6 := ⟨by decide +kernel, rfl⟩
theorem eX1_sit_6 : DJ cX1_sit 6 (.ifCond .eq) 22 9 := ⟨16, by decide +kernel, by decide, rfl⟩
theorem eX1_sit_9 : D1 cX1_sit 9 (.iload_n 3) 10 := ⟨by decide +kernel, rfl⟩
theorem eX1_sit_10 : DC cX1_sit 10 (-1) 11 := Or.inl ⟨-1, ⟨by decide +kernel, rfl⟩, by decide⟩
theorem eX1_sit_11 : DJ cX1_sit 11 (.if_icmp .eq) 25 14 := ⟨14, by decide +kernel, by decide, rfl⟩
theorem eX1_sit_14 : D1 cX1_sit 14 (.aload_n 0) 15 := ⟨by decide +kernel, rfl⟩
theorem eX1_sit_15 : D1 cX1_sit 15 (.iload_n 3) 16 := ⟨by decide +kernel, rfl⟩
theorem eX1_sit_16 : D3 cX1_sit 16 (.invokevirtual 165) 19 := ⟨by decide +kernel, rfl⟩
theorem eX1_sit_19 : DJ cX1_sit 19 (.ifCond .ne) 25 22 := ⟨6, by decide +kernel, by decide, rfl⟩
theorem eX1_sit_22 : DC cX1_sit 22 (-5) 24 := Or.inr (Or.inl ⟨-5, ⟨by decide +kernel, rfl⟩, by decide⟩)
theorem eX1_sit_24 : D1 cX1_sit 24 (.ireturn) 25 := ⟨by decide +kernel, rfl⟩
theorem eX1_sit_25 : D1 cX1_sit 25 (.iload_n 3) 26 := ⟨by decide +kernel, rfl⟩
theorem eX1_sit_26 : DJ cX1_sit 26 (.ifCond .lt) 58 29 := ⟨32, by decide +kernel, by decide, rfl⟩
theorem eX1_sit_29 : D1 cX1_sit 29 (.aload_n 0) 30 := ⟨by decide +kernel, rfl⟩
theorem eX1_sit_30 : D3 cX1_sit 30 (.getfield 22) 33 := ⟨by decide +kernel, rfl⟩
theorem eX1_sit_33 : D1 cX1_sit 33 (.iload_n 3) 34 := ⟨by decide +kernel, rfl⟩
theorem eX1_sit_34 : D1 cX1_sit 34 (.baload) 35 := ⟨by decide +kernel, rfl⟩
theorem eX1_sit_35 : DJ cX1_sit 35 (.ifCond .ne) 55 38 := ⟨20, by decide +kernel, by decide, rfl⟩
theorem eX1_sit_38 : D1 cX1_sit 38 (.iload_n 2) 39 := ⟨by decide +kernel, rfl⟩
theorem eX1_sit_39 : DC cX1_sit 39 (8) 41 := Or.inr (Or.inl ⟨8, ⟨by decide +kernel, rfl⟩, by decide⟩)
theorem eX1_sit_41 : DJ cX1_sit 41 (.if_icmp .ne) 58 44 := ⟨17, by decide +kernel, by decide, rfl⟩
theorem eX1_sit_44 : D1 cX1_sit 44 (.aload_n 0) 45 := ⟨by decide +kernel, rfl⟩
theorem eX1_sit_45 : D3 cX1_sit 45 (.getfield 13) 48 := ⟨by decide +kernel, rfl⟩
theorem eX1_sit_48 : D1 cX1_sit 48 (.iload_n 3) 49 := ⟨by decide +kernel, rfl⟩
theorem eX1_sit_49 : D1 cX1_sit 49 (.iaload) 50 := ⟨by decide +kernel, rfl⟩
theorem eX1_sit_50 : DC cX1_sit 50 (70) 52 := Or.inr (Or.inl ⟨70, ⟨by decide +kernel, rfl⟩, by decide⟩)
theorem eX1_sit_52 : DJ cX1_sit 52 (.if_icmp .le) 58 55 := ⟨6, by decide +kernel, by decide, rfl⟩
theorem eX1_sit_55 : DC cX1_sit 55 (-3) 57 := Or.inr (Or.inl ⟨-3, ⟨by decide +kernel, rfl⟩, by decide⟩)
theorem eX1_sit_57 : D1 cX1_sit 57 (.ireturn) 58 := ⟨by decide +kernel, rfl⟩
theorem eX1_sit_58 : D1 cX1_sit 58 (.aload_n 0) 59 := ⟨by decide +kernel, rfl⟩
theorem eX1_sit_59 : D1 cX1_sit 59 (.iload_n 1) 60 := ⟨by decide +kernel, rfl⟩
theorem eX1_sit_60 : D1 cX1_sit 60 (.iload_n 2) 61 := ⟨by decide +kernel, rfl⟩
theorem eX1_sit_61 : D3 cX1_sit 61 (.invokevirtual 172) 64 := ⟨by decide +kernel, rfl⟩
theorem eX1_sit_64 : D2 cX1_sit 64 (.istore 4) 66 := ⟨by decide +kernel, rfl⟩
theorem eX1_sit_66 : D2 cX1_sit 66 (.iload 4) 68 := ⟨by decide +kernel, rfl⟩
theorem eX1_sit_68 : DJ cX1_sit 68 (.ifCond .lt) 79 71 := ⟨11, by decide +kernel, by decide, rfl⟩
theorem eX1_sit_71 : D1 cX1_sit 71 (.aload_n 0) 72 := ⟨by decide +kernel, rfl⟩
theorem eX1_sit_72 : D3 cX1_sit 72 (.getfield 16) 75 := ⟨by decide +kernel, rfl⟩
theorem eX1_sit_75 : D2 cX1_sit 75 (.iload 4) 77 := ⟨by decide +kernel, rfl⟩
theorem eX1_sit_77 : DC cX1_sit 77 (-1) 78 := Or.inl ⟨-1, ⟨by decide +kernel, rfl⟩, by decide⟩
theorem eX1_sit_78 : D1 cX1_sit 78 (.iastore) 79 := ⟨by decide +kernel, rfl⟩
theorem eX1_sit_79 : D1 cX1_sit 79 (.iload_n 3) 80 := ⟨by decide +kernel, rfl⟩
theorem eX1_sit_80 : DJ cX1_sit 80 (.ifCond .lt) 97 83 := ⟨17, by decide +kernel, by decide, rfl⟩
theorem eX1_sit_83 : D1 cX1_sit 83 (.aload_n 0) 84 := ⟨by decide +kernel, rfl⟩
theorem eX1_sit_84 : D3 cX1_sit 84 (.getfield 16) 87 := ⟨by decide +kernel, rfl⟩
theorem eX1_sit_87 : D1 cX1_sit 87 (.iload_n 3) 88 := ⟨by decide +kernel, rfl⟩
theorem eX1_sit_88 : D1 cX1_sit 88 (.iload_n 1) 89 := ⟨by decide +kernel, rfl⟩
theorem eX1_sit_89 : D1 cX1_sit 89 (.iastore) 90 := ⟨by decide +kernel, rfl⟩
theorem eX1_sit_90 : D1 cX1_sit 90 (.aload_n 0) 91 := ⟨by decide +kernel, rfl⟩
theorem eX1_sit_91 : D3 cX1_sit 91 (.getfield 19) 94 := ⟨by decide +kernel, rfl⟩
theorem eX1_sit_94 : D1 cX1_sit 94 (.iload_n 3) 95 := ⟨by decide +kernel, rfl⟩
theorem eX1_sit_95 : D1 cX1_sit 95 (.iload_n 2) 96 := ⟨by decide +kernel, rfl⟩
theorem eX1_sit_96 : D1 cX1_sit 96 (.iastore) 97 := ⟨by decide +kernel, rfl⟩
theorem eX1_sit_97 : D2 cX1_sit 97 (.iload 4) 99 := ⟨by decide +kernel, rfl⟩
theorem eX1_sit_99 : D1 cX1_sit 99 (.ireturn) 100 := ⟨by decide +kernel, rfl⟩
theorem eX1_seat_0 : D1 cX1_seat 0 (.aload_n 0) 1 := ⟨by decide +kernel, rfl⟩
theorem eX1_seat_1 : D1 cX1_seat 1 (.iload_n 1) 2 := ⟨by decide +kernel, rfl⟩
theorem eX1_seat_2 : D1 cX1_seat 2 (.iload_n 2) 3 := ⟨by decide +kernel, rfl⟩
theorem eX1_seat_3 : D3 cX1_seat 3 (.invokevirtual 168) 6 := ⟨by decide +kernel, rfl⟩
theorem eX1_seat_6 : DJ cX1_seat 6 (.ifCond .eq) 18 9 := ⟨12, by decide +kernel, by decide, rfl⟩
theorem eX1_seat_9 : D1 cX1_seat 9 (.aload_n 0) 10 := ⟨by decide +kernel, rfl⟩
theorem eX1_seat_10 : D1 cX1_seat 10 (.iload_n 1) 11 := ⟨by decide +kernel, rfl⟩
theorem eX1_seat_11 : D1 cX1_seat 11 (.iload_n 2) 12 := ⟨by decide +kernel, rfl⟩
theorem eX1_seat_12 : D3 cX1_seat 12 (.invokevirtual 172) 15 := ⟨by decide +kernel, rfl⟩
theorem eX1_seat_15 : DJ cX1_seat 15 .goto 19 18 := ⟨4, by decide +kernel, by decide, rfl⟩
theorem eX1_seat_18 : DC cX1_seat 18 (-1) 19 := Or.inl ⟨-1, ⟨by decide +kernel, rfl⟩, by decide⟩
theorem eX1_seat_19 : D1 cX1_seat 19 (.ireturn) 20 := ⟨by decide +kernel, rfl⟩
theorem eX1_about_0 : D1 cX1_about 0 (.aload_n 0) 1 := ⟨by decide +kernel, rfl⟩
theorem eX1_about_1 : D1 cX1_about 1 (.iload_n 1) 2 := ⟨by decide +kernel, rfl⟩
theorem eX1_about_2 : D3 cX1_about 2 (.invokevirtual 165) 5 := ⟨by decide +kernel, rfl⟩
theorem eX1_about_5 : DJ cX1_about 5 (.ifCond .ne) 10 8 := ⟨5, by decide +kernel, by decide, rfl⟩
theorem eX1_about_8 : DC cX1_about 8 (-1) 9 := Or.inl ⟨-1, ⟨by decide +kernel, rfl⟩, by decide⟩
theorem eX1_about_9 : D1 cX1_about 9 (.ireturn) 10 := ⟨by decide +kernel, rfl⟩
theorem eX1_about_10 : D1 cX1_about 10 (.iload_n 2) 11 := ⟨by decide +kernel, rfl⟩
theorem eX1_about_11 : decode cX1_about 11 = .ok (.tableswitch 88 0 3 #[29, 36, 43, 58], 29) := by decide +kernel
theorem eX1_about_40 : D1 cX1_about 40 (.aload_n 0) 41 := ⟨by decide +kernel, rfl⟩
theorem eX1_about_41 : D3 cX1_about 41 (.getfield 7) 44 := ⟨by decide +kernel, rfl⟩
theorem eX1_about_44 : D1 cX1_about 44 (.iload_n 1) 45 := ⟨by decide +kernel, rfl⟩
theorem eX1_about_45 : D1 cX1_about 45 (.iaload) 46 := ⟨by decide +kernel, rfl⟩
theorem eX1_about_46 : D1 cX1_about 46 (.ireturn) 47 := ⟨by decide +kernel, rfl⟩
theorem eX1_about_47 : D1 cX1_about 47 (.aload_n 0) 48 := ⟨by decide +kernel, rfl⟩
theorem eX1_about_48 : D3 cX1_about 48 (.getfield 13) 51 := ⟨by decide +kernel, rfl⟩
theorem eX1_about_51 : D1 cX1_about 51 (.iload_n 1) 52 := ⟨by decide +kernel, rfl⟩
theorem eX1_about_52 : D1 cX1_about 52 (.iaload) 53 := ⟨by decide +kernel, rfl⟩
theorem eX1_about_53 : D1 cX1_about 53 (.ireturn) 54 := ⟨by decide +kernel, rfl⟩
theorem eX1_about_54 : D1 cX1_about 54 (.aload_n 0) 55 := ⟨by decide +kernel, rfl⟩
theorem eX1_about_55 : D3 cX1_about 55 (.getfield 22) 58 := ⟨by decide +kernel, rfl⟩
theorem eX1_about_58 : D1 cX1_about 58 (.iload_n 1) 59 := ⟨by decide +kernel, rfl⟩
theorem eX1_about_59 : D1 cX1_about 59 (.baload) 60 := ⟨by decide +kernel, rfl⟩
theorem eX1_about_60 : DJ cX1_about 60 (.ifCond .eq) 67 63 := ⟨7, by decide +kernel, by decide, rfl⟩
theorem eX1_about_63 : DC cX1_about 63 (1) 64 := Or.inl ⟨1, ⟨by decide +kernel, rfl⟩, by decide⟩
theorem eX1_about_64 : DJ cX1_about 64 .goto 68 67 := ⟨4, by decide +kernel, by decide, rfl⟩
theorem eX1_about_67 : DC cX1_about 67 (0) 68 := Or.inl ⟨0, ⟨by decide +kernel, rfl⟩, by decide⟩
theorem eX1_about_68 : D1 cX1_about 68 (.ireturn) 69 := ⟨by decide +kernel, rfl⟩
theorem eX1_about_69 : D1 cX1_about 69 (.aload_n 0) 70 := ⟨by decide +kernel, rfl⟩
theorem eX1_about_70 : D3 cX1_about 70 (.getfield 16) 73 := ⟨by decide +kernel, rfl⟩
theorem eX1_about_73 : D1 cX1_about 73 (.iload_n 1) 74 := ⟨by decide +kernel, rfl⟩
theorem eX1_about_74 : D1 cX1_about 74 (.iaload) 75 := ⟨by decide +kernel, rfl⟩
theorem eX1_about_75 : DJ cX1_about 75 (.ifCond .ge) 82 78 := ⟨7, by decide +kernel, by decide, rfl⟩
theorem eX1_about_78 : DC cX1_about 78 (-1) 79 := Or.inl ⟨-1, ⟨by decide +kernel, rfl⟩, by decide⟩
theorem eX1_about_79 : DJ cX1_about 79 .goto 98 82 := ⟨19, by decide +kernel, by decide, rfl⟩
theorem eX1_about_82 : DC cX1_about 82 (10) 84 := Or.inr (Or.inl ⟨10, ⟨by decide +kernel, rfl⟩, by decide⟩)
theorem eX1_about_84 : D1 cX1_about 84 (.aload_n 0) 85 := ⟨by decide +kernel, rfl⟩
theorem eX1_about_85 : D3 cX1_about 85 (.getfield 16) 88 := ⟨by decide +kernel, rfl⟩
theorem eX1_about_88 : D1 cX1_about 88 (.iload_n 1) 89 := ⟨by decide +kernel, rfl⟩
theorem eX1_about_89 : D1 cX1_about 89 (.iaload) 90 := ⟨by decide +kernel, rfl⟩
theorem eX1_about_90 : D1 cX1_about 90 (.imul) 91 := ⟨by decide +kernel, rfl⟩
theorem eX1_about_91 : D1 cX1_about 91 (.aload_n 0) 92 := ⟨by decide +kernel, rfl⟩
theorem eX1_about_92 : D3 cX1_about 92 (.getfield 19) 95 := ⟨by decide +kernel, rfl⟩
theorem eX1_about_95 : D1 cX1_about 95 (.iload_n 1) 96 := ⟨by decide +kernel, rfl⟩
theorem eX1_about_96 : D1 cX1_about 96 (.iaload) 97 := ⟨by decide +kernel, rfl⟩
theorem eX1_about_97 : D1 cX1_about 97 (.iadd) 98 := ⟨by decide +kernel, rfl⟩
theorem eX1_about_98 : D1 cX1_about 98 (.ireturn) 99 := ⟨by decide +kernel, rfl⟩
theorem eX1_about_99 : DC cX1_about 99 (-1) 100 := Or.inl ⟨-1, ⟨by decide +kernel, rfl⟩, by decide⟩
theorem eX1_about_100 : D1 cX1_about 100 (.ireturn) 101 := ⟨by decide +kernel, rfl⟩
theorem eX1_race_0 : D1 cX1_race 0 (.aload_n 0) 1 := ⟨by decide +kernel, rfl⟩
theorem eX1_race_1 : D1 cX1_race 1 (.iload_n 1) 2 := ⟨by decide +kernel, rfl⟩
theorem eX1_race_2 : D3 cX1_race 2 (.invokevirtual 165) 5 := ⟨by decide +kernel, rfl⟩
theorem eX1_race_5 : DJ cX1_race 5 (.ifCond .eq) 16 8 := ⟨11, by decide +kernel, by decide, rfl⟩
theorem eX1_race_8 : D1 cX1_race 8 (.aload_n 0) 9 := ⟨by decide +kernel, rfl⟩
theorem eX1_race_9 : D1 cX1_race 9 (.iload_n 2) 10 := ⟨by decide +kernel, rfl⟩
theorem eX1_race_10 : D3 cX1_race 10 (.invokevirtual 165) 13 := ⟨by decide +kernel, rfl⟩
theorem eX1_race_13 : DJ cX1_race 13 (.ifCond .ne) 18 16 := ⟨5, by decide +kernel, by decide, rfl⟩
theorem eX1_race_16 : DC cX1_race 16 (-1) 17 := Or.inl ⟨-1, ⟨by decide +kernel, rfl⟩, by decide⟩
theorem eX1_race_17 : D1 cX1_race 17 (.ireturn) 18 := ⟨by decide +kernel, rfl⟩
theorem eX1_race_18 : D1 cX1_race 18 (.iload_n 1) 19 := ⟨by decide +kernel, rfl⟩
theorem eX1_race_19 : D1 cX1_race 19 (.iload_n 2) 20 := ⟨by decide +kernel, rfl⟩
theorem eX1_race_20 : DJ cX1_race 20 (.if_icmp .eq) 37 23 := ⟨17, by decide +kernel, by decide, rfl⟩
theorem eX1_race_23 : D1 cX1_race 23 (.iload_n 3) 24 := ⟨by decide +kernel, rfl⟩
theorem eX1_race_24 : D1 cX1_race 24 (.i2l) 25 := ⟨by decide +kernel, rfl⟩
theorem eX1_race_25 : D3 cX1_race 25 (.ldc2_w 176) 28 := ⟨by decide +kernel, rfl⟩
theorem eX1_race_28 : D3 cX1_race 28 (.ldc2_w 178) 31 := ⟨by decide +kernel, rfl⟩
theorem eX1_race_31 : D3 cX1_race 31 (.invokestatic 155) 34 := ⟨by decide +kernel, rfl⟩
theorem eX1_race_34 : DJ cX1_race 34 (.ifCond .ne) 40 37 := ⟨6, by decide +kernel, by decide, rfl⟩
theorem eX1_race_37 : DC cX1_race 37 (-2) 39 := Or.inr (Or.inl ⟨-2, ⟨by decide +kernel, rfl⟩, by decide⟩)
theorem eX1_race_39 : D1 cX1_race 39 (.ireturn) 40 := ⟨by decide +kernel, rfl⟩
theorem eX1_race_40 : D1 cX1_race 40 (.aload_n 0) 41 := ⟨by decide +kernel, rfl⟩
theorem eX1_race_41 : D3 cX1_race 41 (.getfield 180) 44 := ⟨by decide +kernel, rfl⟩
theorem eX1_race_44 : DC cX1_race 44 (40) 46 := Or.inr (Or.inl ⟨40, ⟨by decide +kernel, rfl⟩, by decide⟩)
theorem eX1_race_46 : DJ cX1_race 46 (.if_icmp .ne) 52 49 := ⟨6, by decide +kernel, by decide, rfl⟩
theorem eX1_race_49 : DC cX1_race 49 (-4) 51 := Or.inr (Or.inl ⟨-4, ⟨by decide +kernel, rfl⟩, by decide⟩)
theorem eX1_race_51 : D1 cX1_race 51 (.ireturn) 52 := ⟨by decide +kernel, rfl⟩
theorem eX1_race_52 : D1 cX1_race 52 (.aload_n 0) 53 := ⟨by decide +kernel, rfl⟩
theorem eX1_race_53 : D3 cX1_race 53 (.getfield 41) 56 := ⟨by decide +kernel, rfl⟩
theorem eX1_race_56 : D1 cX1_race 56 (.aload_n 0) 57 := ⟨by decide +kernel, rfl⟩
theorem eX1_race_57 : D3 cX1_race 57 (.getfield 180) 60 := ⟨by decide +kernel, rfl⟩
theorem eX1_race_60 : D1 cX1_race 60 (.iload_n 1) 61 := ⟨by decide +kernel, rfl⟩
theorem eX1_race_61 : D1 cX1_race 61 (.iastore) 62 := ⟨by decide +kernel, rfl⟩
theorem eX1_race_62 : D1 cX1_race 62 (.aload_n 0) 63 := ⟨by decide +kernel, rfl⟩
theorem eX1_race_63 : D3 cX1_race 63 (.getfield 44) 66 := ⟨by decide +kernel, rfl⟩
theorem eX1_race_66 : D1 cX1_race 66 (.aload_n 0) 67 := ⟨by decide +kernel, rfl⟩
theorem eX1_race_67 : D3 cX1_race 67 (.getfield 180) 70 := ⟨by decide +kernel, rfl⟩
theorem eX1_race_70 : D1 cX1_race 70 (.iload_n 2) 71 := ⟨by decide +kernel, rfl⟩
theorem eX1_race_71 : D1 cX1_race 71 (.iastore) 72 := ⟨by decide +kernel, rfl⟩
theorem eX1_race_72 : D1 cX1_race 72 (.aload_n 0) 73 := ⟨by decide +kernel, rfl⟩
theorem eX1_race_73 : D3 cX1_race 73 (.getfield 47) 76 := ⟨by decide +kernel, rfl⟩
theorem eX1_race_76 : D1 cX1_race 76 (.aload_n 0) 77 := ⟨by decide +kernel, rfl⟩
theorem eX1_race_77 : D3 cX1_race 77 (.getfield 180) 80 := ⟨by decide +kernel, rfl⟩
theorem eX1_race_80 : D1 cX1_race 80 (.iload_n 3) 81 := ⟨by decide +kernel, rfl⟩
theorem eX1_race_81 : D1 cX1_race 81 (.iastore) 82 := ⟨by decide +kernel, rfl⟩
theorem eX1_race_82 : D1 cX1_race 82 (.aload_n 0) 83 := ⟨by decide +kernel, rfl⟩
theorem eX1_race_83 : D1 cX1_race 83 (.dup) 84 := ⟨by decide +kernel, rfl⟩
theorem eX1_race_84 : D3 cX1_race 84 (.getfield 180) 87 := ⟨by decide +kernel, rfl⟩
theorem eX1_race_87 : DC cX1_race 87 (1) 88 := Or.inl ⟨1, ⟨by decide +kernel, rfl⟩, by decide⟩
theorem eX1_race_88 : D1 cX1_race 88 (.iadd) 89 := ⟨by decide +kernel, rfl⟩
theorem eX1_race_89 : D3 cX1_race 89 (.putfield 180) 92 := ⟨by decide +kernel, rfl⟩
theorem eX1_race_92 : D1 cX1_race 92 (.aload_n 0) 93 := ⟨by decide +kernel, rfl⟩
theorem eX1_race_93 : D3 cX1_race 93 (.getfield 180) 96 := ⟨by decide +kernel, rfl⟩
theorem eX1_race_96 : D1 cX1_race 96 (.ireturn) 97 := ⟨by decide +kernel, rfl⟩
theorem eX1_unrace_0 : D1 cX1_unrace 0 (.aload_n 0) 1 := ⟨by decide +kernel, rfl⟩
theorem eX1_unrace_1 : D3 cX1_unrace 1 (.getfield 180) 4 := ⟨by decide +kernel, rfl⟩
theorem eX1_unrace_4 : DJ cX1_unrace 4 (.ifCond .ne) 10 7 := ⟨6, by decide +kernel, by decide, rfl⟩
theorem eX1_unrace_7 : DC cX1_unrace 7 (-3) 9 := Or.inr (Or.inl ⟨-3, ⟨by decide +kernel, rfl⟩, by decide⟩)
theorem eX1_unrace_9 : D1 cX1_unrace 9 (.ireturn) 10 := ⟨by decide +kernel, rfl⟩
theorem eX1_unrace_10 : D1 cX1_unrace 10 (.aload_n 0) 11 := ⟨by decide +kernel, rfl⟩
theorem eX1_unrace_11 : D1 cX1_unrace 11 (.dup) 12 := ⟨by decide +kernel, rfl⟩
theorem eX1_unrace_12 : D3 cX1_unrace 12 (.getfield 180) 15 := ⟨by decide +kernel, rfl⟩
theorem eX1_unrace_15 : DC cX1_unrace 15 (1) 16 := Or.inl ⟨1, ⟨by decide +kernel, rfl⟩, by decide⟩
theorem eX1_unrace_16 : D1 cX1_unrace 16 (.isub) 17 := ⟨by decide +kernel, rfl⟩
theorem eX1_unrace_17 : D3 cX1_unrace 17 (.putfield 180) 20 := ⟨by decide +kernel, rfl⟩
theorem eX1_unrace_20 : D1 cX1_unrace 20 (.aload_n 0) 21 := ⟨by decide +kernel, rfl⟩
theorem eX1_unrace_21 : D3 cX1_unrace 21 (.getfield 180) 24 := ⟨by decide +kernel, rfl⟩
theorem eX1_unrace_24 : D1 cX1_unrace 24 (.ireturn) 25 := ⟨by decide +kernel, rfl⟩
theorem eX1_findGroups_0 : DC cX1_findGroups 0 (0) 1 := Or.inl ⟨0, ⟨by decide +kernel, rfl⟩, by decide⟩
theorem eX1_findGroups_1 : D1 cX1_findGroups 1 (.istore_n 1) 2 := ⟨by decide +kernel, rfl⟩
theorem eX1_findGroups_2 : D1 cX1_findGroups 2 (.iload_n 1) 3 := ⟨by decide +kernel, rfl⟩
theorem eX1_findGroups_3 : DC cX1_findGroups 3 (16) 5 := Or.inr (Or.inl ⟨16, ⟨by decide +kernel, rfl⟩, by decide⟩)
theorem eX1_findGroups_5 : DJ cX1_findGroups 5 (.if_icmp .ge) 21 8 := ⟨16, by decide +kernel, by decide, rfl⟩
theorem eX1_findGroups_8 : D1 cX1_findGroups 8 (.aload_n 0) 9 := ⟨by decide +kernel, rfl⟩
theorem eX1_findGroups_9 : D3 cX1_findGroups 9 (.getfield 50) 12 := ⟨by decide +kernel, rfl⟩
theorem eX1_findGroups_12 : D1 cX1_findGroups 12 (.iload_n 1) 13 := ⟨by decide +kernel, rfl⟩
theorem eX1_findGroups_13 : D1 cX1_findGroups 13 (.iload_n 1) 14 := ⟨by decide +kernel, rfl⟩
theorem eX1_findGroups_14 : D1 cX1_findGroups 14 (.iastore) 15 := ⟨by decide +kernel, rfl⟩
theorem eX1_findGroups_15 : D3 cX1_findGroups 15 (.iinc 1 1) 18 := ⟨by decide +kernel, rfl⟩
theorem eX1_findGroups_18 : DJ cX1_findGroups 18 .goto 2 21 := ⟨-16, by decide +kernel, by decide, rfl⟩
theorem eX1_findGroups_21 : DC cX1_findGroups 21 (1) 22 := Or.inl ⟨1, ⟨by decide +kernel, rfl⟩, by decide⟩
theorem eX1_findGroups_22 : D1 cX1_findGroups 22 (.istore_n 1) 23 := ⟨by decide +kernel, rfl⟩
theorem eX1_findGroups_23 : D1 cX1_findGroups 23 (.iload_n 1) 24 := ⟨by decide +kernel, rfl⟩
theorem eX1_findGroups_24 : DJ cX1_findGroups 24 (.ifCond .eq) 130 27 := ⟨106, by decide +kernel, by decide, rfl⟩
theorem eX1_findGroups_27 : DC cX1_findGroups 27 (0) 28 := Or.inl ⟨0, ⟨by decide +kernel, rfl⟩, by decide⟩
theorem eX1_findGroups_28 : D1 cX1_findGroups 28 (.istore_n 1) 29 := ⟨by decide +kernel, rfl⟩
theorem eX1_findGroups_29 : DC cX1_findGroups 29 (0) 30 := Or.inl ⟨0, ⟨by decide +kernel, rfl⟩, by decide⟩
theorem eX1_findGroups_30 : D1 cX1_findGroups 30 (.istore_n 2) 31 := ⟨by decide +kernel, rfl⟩
theorem eX1_findGroups_31 : D1 cX1_findGroups 31 (.iload_n 2) 32 := ⟨by decide +kernel, rfl⟩
theorem eX1_findGroups_32 : D1 cX1_findGroups 32 (.aload_n 0) 33 := ⟨by decide +kernel, rfl⟩
theorem eX1_findGroups_33 : D3 cX1_findGroups 33 (.getfield 180) 36 := ⟨by decide +kernel, rfl⟩
theorem eX1_findGroups_36 : DJ cX1_findGroups 36 (.if_icmp .ge) 127 39 := ⟨91, by decide +kernel, by decide, rfl⟩
theorem eX1_findGroups_39 : D1 cX1_findGroups 39 (.aload_n 0) 40 := ⟨by decide +kernel, rfl⟩
theorem eX1_findGroups_40 : D3 cX1_findGroups 40 (.getfield 50) 43 := ⟨by decide +kernel, rfl⟩
theorem eX1_findGroups_43 : D1 cX1_findGroups 43 (.aload_n 0) 44 := ⟨by decide +kernel, rfl⟩
theorem eX1_findGroups_44 : D3 cX1_findGroups 44 (.getfield 41) 47 := ⟨by decide +kernel, rfl⟩
theorem eX1_findGroups_47 : D1 cX1_findGroups 47 (.iload_n 2) 48 := ⟨by decide +kernel, rfl⟩
theorem eX1_findGroups_48 : D1 cX1_findGroups 48 (.iaload) 49 := ⟨by decide +kernel, rfl⟩
theorem eX1_findGroups_49 : D1 cX1_findGroups 49 (.iaload) 50 := ⟨by decide +kernel, rfl⟩
theorem eX1_findGroups_50 : D1 cX1_findGroups 50 (.istore_n 3) 51 := ⟨by decide +kernel, rfl⟩
theorem eX1_findGroups_51 : D1 cX1_findGroups 51 (.aload_n 0) 52 := ⟨by decide +kernel, rfl⟩
theorem eX1_findGroups_52 : D3 cX1_findGroups 52 (.getfield 50) 55 := ⟨by decide +kernel, rfl⟩
theorem eX1_findGroups_55 : D1 cX1_findGroups 55 (.aload_n 0) 56 := ⟨by decide +kernel, rfl⟩
theorem eX1_findGroups_56 : D3 cX1_findGroups 56 (.getfield 44) 59 := ⟨by decide +kernel, rfl⟩
theorem eX1_findGroups_59 : D1 cX1_findGroups 59 (.iload_n 2) 60 := ⟨by decide +kernel, rfl⟩
theorem eX1_findGroups_60 : D1 cX1_findGroups 60 (.iaload) 61 := ⟨by decide +kernel, rfl⟩
theorem eX1_findGroups_61 : D1 cX1_findGroups 61 (.iaload) 62 := ⟨by decide +kernel, rfl⟩
theorem eX1_findGroups_62 : D2 cX1_findGroups 62 (.istore 4) 64 := ⟨by decide +kernel, rfl⟩
theorem eX1_findGroups_64 : D1 cX1_findGroups 64 (.iload_n 3) 65 := ⟨by decide +kernel, rfl⟩
theorem eX1_findGroups_65 : D2 cX1_findGroups 65 (.iload 4) 67 := ⟨by decide +kernel, rfl⟩
theorem eX1_findGroups_67 : DJ cX1_findGroups 67 (.if_icmp .ne) 73 70 := ⟨6, by decide +kernel, by decide, rfl⟩
theorem eX1_findGroups_70 : DJ cX1_findGroups 70 .goto 121 73 := ⟨51, by decide +kernel, by decide, rfl⟩
theorem eX1_findGroups_73 : D1 cX1_findGroups 73 (.aload_n 0) 74 := ⟨by decide +kernel, rfl⟩
theorem eX1_findGroups_74 : D3 cX1_findGroups 74 (.getfield 50) 77 := ⟨by decide +kernel, rfl⟩
theorem eX1_findGroups_77 : D1 cX1_findGroups 77 (.aload_n 0) 78 := ⟨by decide +kernel, rfl⟩
theorem eX1_findGroups_78 : D3 cX1_findGroups 78 (.getfield 41) 81 := ⟨by decide +kernel, rfl⟩
theorem eX1_findGroups_81 : D1 cX1_findGroups 81 (.iload_n 2) 82 := ⟨by decide +kernel, rfl⟩
theorem eX1_findGroups_82 : D1 cX1_findGroups 82 (.iaload) 83 := ⟨by decide +kernel, rfl⟩
theorem eX1_findGroups_83 : D1 cX1_findGroups 83 (.iload_n 3) 84 := ⟨by decide +kernel, rfl⟩
theorem eX1_findGroups_84 : D2 cX1_findGroups 84 (.iload 4) 86 := ⟨by decide +kernel, rfl⟩
theorem eX1_findGroups_86 : DJ cX1_findGroups 86 (.if_icmp .ge) 93 89 := ⟨7, by decide +kernel, by decide, rfl⟩
theorem eX1_findGroups_89 : D1 cX1_findGroups 89 (.iload_n 3) 90 := ⟨by decide +kernel, rfl⟩
theorem eX1_findGroups_90 : DJ cX1_findGroups 90 .goto 95 93 := ⟨5, by decide +kernel, by decide, rfl⟩
theorem eX1_findGroups_93 : D2 cX1_findGroups 93 (.iload 4) 95 := ⟨by decide +kernel, rfl⟩
theorem eX1_findGroups_95 : D1 cX1_findGroups 95 (.iastore) 96 := ⟨by decide +kernel, rfl⟩
theorem eX1_findGroups_96 : D1 cX1_findGroups 96 (.aload_n 0) 97 := ⟨by decide +kernel, rfl⟩
theorem eX1_findGroups_97 : D3 cX1_findGroups 97 (.getfield 50) 100 := ⟨by decide +kernel, rfl⟩
theorem eX1_findGroups_100 : D1 cX1_findGroups 100 (.aload_n 0) 101 := ⟨by decide +kernel, rfl⟩
theorem eX1_findGroups_101 : D3 cX1_findGroups 101 (.getfield 44) 104 := ⟨by decide +kernel, rfl⟩
theorem eX1_findGroups_104 : D1 cX1_findGroups 104 (.iload_n 2) 105 := ⟨by decide +kernel, rfl⟩
theorem eX1_findGroups_105 : D1 cX1_findGroups 105 (.iaload) 106 := ⟨by decide +kernel, rfl⟩
theorem eX1_findGroups_106 : D1 cX1_findGroups 106 (.iload_n 3) 107 := ⟨by decide +kernel, rfl⟩
theorem eX1_findGroups_107 : D2 cX1_findGroups 107 (.iload 4) 109 := ⟨by decide +kernel, rfl⟩
theorem eX1_findGroups_109 : DJ cX1_findGroups 109 (.if_icmp .ge) 116 112 := ⟨7, by decide +kernel, by decide, rfl⟩
theorem eX1_findGroups_112 : D1 cX1_findGroups 112 (.iload_n 3) 113 := ⟨by decide +kernel, rfl⟩
theorem eX1_findGroups_113 : DJ cX1_findGroups 113 .goto 118 116 := ⟨5, by decide +kernel, by decide, rfl⟩
theorem eX1_findGroups_116 : D2 cX1_findGroups 116 (.iload 4) 118 := ⟨by decide +kernel, rfl⟩
theorem eX1_findGroups_118 : D1 cX1_findGroups 118 (.iastore) 119 := ⟨by decide +kernel, rfl⟩
theorem eX1_findGroups_119 : DC cX1_findGroups 119 (1) 120 := Or.inl ⟨1, ⟨by decide +kernel, rfl⟩, by decide⟩
theorem eX1_findGroups_120 : D1 cX1_findGroups 120 (.istore_n 1) 121 := ⟨by decide +kernel, rfl⟩
theorem eX1_findGroups_121 : D3 cX1_findGroups 121 (.iinc 2 1) 124 := ⟨by decide +kernel, rfl⟩
theorem eX1_findGroups_124 : DJ cX1_findGroups 124 .goto 31 127 := ⟨-93, by decide +kernel, by decide, rfl⟩
theorem eX1_findGroups_127 : DJ cX1_findGroups 127 .goto 23 130 := ⟨-104, by decide +kernel, by decide, rfl⟩
theorem eX1_findGroups_130 : D1 cX1_findGroups 130 (.return_) 131 := ⟨by decide +kernel, rfl⟩
theorem eX1_group_0 : D1 cX1_group 0 (.aload_n 0) 1 := ⟨by decide +kernel, rfl⟩
theorem eX1_group_1 : D1 cX1_group 1 (.iload_n 1) 2 := ⟨by decide +kernel, rfl⟩
theorem eX1_group_2 : D3 cX1_group 2 (.invokevirtual 165) 5 := ⟨by decide +kernel, rfl⟩
theorem eX1_group_5 : DJ cX1_group 5 (.ifCond .ne) 10 8 := ⟨5, by decide +kernel, by decide, rfl⟩
theorem eX1_group_8 : DC cX1_group 8 (-1) 9 := Or.inl ⟨-1, ⟨by decide +kernel, rfl⟩, by decide⟩
theorem eX1_group_9 : D1 cX1_group 9 (.ireturn) 10 := ⟨by decide +kernel, rfl⟩
theorem eX1_group_10 : D1 cX1_group 10 (.aload_n 0) 11 := ⟨by decide +kernel, rfl⟩
theorem eX1_group_11 : D3 cX1_group 11 (.invokevirtual 183) 14 := ⟨by decide +kernel, rfl⟩
theorem eX1_group_14 : D1 cX1_group 14 (.aload_n 0) 15 := ⟨by decide +kernel, rfl⟩
theorem eX1_group_15 : D3 cX1_group 15 (.getfield 50) 18 := ⟨by decide +kernel, rfl⟩
theorem eX1_group_18 : D1 cX1_group 18 (.iload_n 1) 19 := ⟨by decide +kernel, rfl⟩
theorem eX1_group_19 : D1 cX1_group 19 (.iaload) 20 := ⟨by decide +kernel, rfl⟩
theorem eX1_group_20 : D1 cX1_group 20 (.ireturn) 21 := ⟨by decide +kernel, rfl⟩
theorem eX1_tells_0 : D1 cX1_tells 0 (.iload_n 1) 1 := ⟨by decide +kernel, rfl⟩
theorem eX1_tells_1 : DJ cX1_tells 1 (.ifCond .ge) 5 4 := ⟨4, by decide +kernel, by decide, rfl⟩
theorem eX1_tells_4 : D1 cX1_tells 4 (.return_) 5 := ⟨by decide +kernel, rfl⟩
theorem eX1_tells_5 : D1 cX1_tells 5 (.aload_n 0) 6 := ⟨by decide +kernel, rfl⟩
theorem eX1_tells_6 : D3 cX1_tells 6 (.getfield 56) 9 := ⟨by decide +kernel, rfl⟩
theorem eX1_tells_9 : DC cX1_tells 9 (7) 11 := Or.inr (Or.inl ⟨7, ⟨by decide +kernel, rfl⟩, by decide⟩)
theorem eX1_tells_11 : D1 cX1_tells 11 (.iload_n 1) 12 := ⟨by decide +kernel, rfl⟩
theorem eX1_tells_12 : D1 cX1_tells 12 (.imul) 13 := ⟨by decide +kernel, rfl⟩
theorem eX1_tells_13 : D1 cX1_tells 13 (.iload_n 1) 14 := ⟨by decide +kernel, rfl⟩
theorem eX1_tells_14 : D1 cX1_tells 14 (.iadd) 15 := ⟨by decide +kernel, rfl⟩
theorem eX1_tells_15 : D1 cX1_tells 15 (.dup2) 16 := ⟨by decide +kernel, rfl⟩
theorem eX1_tells_16 : D1 cX1_tells 16 (.laload) 17 := ⟨by decide +kernel, rfl⟩
theorem eX1_tells_17 : D1 cX1_tells 17 (.lconst 1) 18 := ⟨by decide +kernel, rfl⟩
theorem eX1_tells_18 : D1 cX1_tells 18 (.ladd) 19 := ⟨by decide +kernel, rfl⟩
theorem eX1_tells_19 : D1 cX1_tells 19 (.lastore) 20 := ⟨by decide +kernel, rfl⟩
theorem eX1_tells_20 : D1 cX1_tells 20 (.iload_n 2) 21 := ⟨by decide +kernel, rfl⟩
theorem eX1_tells_21 : DJ cX1_tells 21 (.ifCond .lt) 39 24 := ⟨18, by decide +kernel, by decide, rfl⟩
theorem eX1_tells_24 : D1 cX1_tells 24 (.aload_n 0) 25 := ⟨by decide +kernel, rfl⟩
theorem eX1_tells_25 : D3 cX1_tells 25 (.getfield 56) 28 := ⟨by decide +kernel, rfl⟩
theorem eX1_tells_28 : DC cX1_tells 28 (7) 30 := Or.inr (Or.inl ⟨7, ⟨by decide +kernel, rfl⟩, by decide⟩)
theorem eX1_tells_30 : D1 cX1_tells 30 (.iload_n 1) 31 := ⟨by decide +kernel, rfl⟩
theorem eX1_tells_31 : D1 cX1_tells 31 (.imul) 32 := ⟨by decide +kernel, rfl⟩
theorem eX1_tells_32 : D1 cX1_tells 32 (.iload_n 2) 33 := ⟨by decide +kernel, rfl⟩
theorem eX1_tells_33 : D1 cX1_tells 33 (.iadd) 34 := ⟨by decide +kernel, rfl⟩
theorem eX1_tells_34 : D1 cX1_tells 34 (.dup2) 35 := ⟨by decide +kernel, rfl⟩
theorem eX1_tells_35 : D1 cX1_tells 35 (.laload) 36 := ⟨by decide +kernel, rfl⟩
theorem eX1_tells_36 : D1 cX1_tells 36 (.lconst 1) 37 := ⟨by decide +kernel, rfl⟩
theorem eX1_tells_37 : D1 cX1_tells 37 (.lsub) 38 := ⟨by decide +kernel, rfl⟩
theorem eX1_tells_38 : D1 cX1_tells 38 (.lastore) 39 := ⟨by decide +kernel, rfl⟩
theorem eX1_tells_39 : D1 cX1_tells 39 (.aload_n 0) 40 := ⟨by decide +kernel, rfl⟩
theorem eX1_tells_40 : D3 cX1_tells 40 (.getfield 60) 43 := ⟨by decide +kernel, rfl⟩
theorem eX1_tells_43 : D1 cX1_tells 43 (.iload_n 1) 44 := ⟨by decide +kernel, rfl⟩
theorem eX1_tells_44 : D1 cX1_tells 44 (.dup2) 45 := ⟨by decide +kernel, rfl⟩
theorem eX1_tells_45 : D1 cX1_tells 45 (.laload) 46 := ⟨by decide +kernel, rfl⟩
theorem eX1_tells_46 : D1 cX1_tells 46 (.iload_n 3) 47 := ⟨by decide +kernel, rfl⟩
theorem eX1_tells_47 : D1 cX1_tells 47 (.i2l) 48 := ⟨by decide +kernel, rfl⟩
theorem eX1_tells_48 : D1 cX1_tells 48 (.ladd) 49 := ⟨by decide +kernel, rfl⟩
theorem eX1_tells_49 : D1 cX1_tells 49 (.lastore) 50 := ⟨by decide +kernel, rfl⟩
theorem eX1_tells_50 : D1 cX1_tells 50 (.return_) 51 := ⟨by decide +kernel, rfl⟩
theorem eX1_bits_0 : DC cX1_bits 0 (0) 1 := Or.inl ⟨0, ⟨by decide +kernel, rfl⟩, by decide⟩
theorem eX1_bits_1 : D1 cX1_bits 1 (.istore_n 1) 2 := ⟨by decide +kernel, rfl⟩
theorem eX1_bits_2 : DC cX1_bits 2 (0) 3 := Or.inl ⟨0, ⟨by decide +kernel, rfl⟩, by decide⟩
theorem eX1_bits_3 : D1 cX1_bits 3 (.istore_n 2) 4 := ⟨by decide +kernel, rfl⟩
theorem eX1_bits_4 : D1 cX1_bits 4 (.iload_n 2) 5 := ⟨by decide +kernel, rfl⟩
theorem eX1_bits_5 : DC cX1_bits 5 (16) 7 := Or.inr (Or.inl ⟨16, ⟨by decide +kernel, rfl⟩, by decide⟩)
theorem eX1_bits_7 : DJ cX1_bits 7 (.if_icmp .ge) 24 10 := ⟨17, by decide +kernel, by decide, rfl⟩
theorem eX1_bits_10 : D1 cX1_bits 10 (.iload_n 1) 11 := ⟨by decide +kernel, rfl⟩
theorem eX1_bits_11 : D1 cX1_bits 11 (.iload_n 0) 12 := ⟨by decide +kernel, rfl⟩
theorem eX1_bits_12 : D1 cX1_bits 12 (.iload_n 2) 13 := ⟨by decide +kernel, rfl⟩
theorem eX1_bits_13 : D1 cX1_bits 13 (.ishr) 14 := ⟨by decide +kernel, rfl⟩
theorem eX1_bits_14 : DC cX1_bits 14 (1) 15 := Or.inl ⟨1, ⟨by decide +kernel, rfl⟩, by decide⟩
theorem eX1_bits_15 : D1 cX1_bits 15 (.iand) 16 := ⟨by decide +kernel, rfl⟩
theorem eX1_bits_16 : D1 cX1_bits 16 (.iadd) 17 := ⟨by decide +kernel, rfl⟩
theorem eX1_bits_17 : D1 cX1_bits 17 (.istore_n 1) 18 := ⟨by decide +kernel, rfl⟩
theorem eX1_bits_18 : D3 cX1_bits 18 (.iinc 2 1) 21 := ⟨by decide +kernel, rfl⟩
theorem eX1_bits_21 : DJ cX1_bits 21 .goto 4 24 := ⟨-17, by decide +kernel, by decide, rfl⟩
theorem eX1_bits_24 : D1 cX1_bits 24 (.iload_n 1) 25 := ⟨by decide +kernel, rfl⟩
theorem eX1_bits_25 : D1 cX1_bits 25 (.ireturn) 26 := ⟨by decide +kernel, rfl⟩
def sM_isIn (a1 : Int64) (a2 : Int64) (a3 : Int64) : Option (Int32) :=
  if a1 < a2 then (some (0 : Int32)) else (if a3 < a1 then (some (0 : Int32)) else (some (1 : Int32)))
abbrev rmX1_isIn : Room := { frames := 0, cells := 0, slots := 0, locals := 0 }
theorem pkX1_isIn : PkS yX1_isIn cX1_isIn 6 (some .boolean) 3 := ⟨q926, q58, q927, by decide +kernel⟩
set_option maxHeartbeats 4000000 in
theorem met_X1_isIn (l : Launch) (D : va_G) (tys : List (ClassId × FieldType)) (ws : va_W) (NX : Nat → State → Prop) (a1 : Int64) (a2 : Int64) (a3 : Int64) (sz : Nat) (r : Int32) (ho : sM_isIn a1 a2 a3 = some r) : Met l yX1_isIn (ws_ yX1_isIn cX1_isIn 6 (some .boolean)) rmX1_isIn (va_Pc [.long a1, .long a2, .long a3] (MPre D vwCl tys ws NX sz)) (QcI D vwCl tys ws r (va_A ws sz)) 0 0 (va_A ws sz) := by
  refine met_XJ (cw := fun (_ : Unit) => ws) (w := ()) (cc := cX1_isIn) (lv := [(0, .long a1), (2, .long a2), (4, .long a3)]) pnX1 _ (Nat.le_of_ble_eq_true rfl) rfl ?_
  intro p e s m args below meth c R Q A B hN hr hsz hA hmm hRm hQ hAe
  unfold sM_isIn at ho
  refine j_lload_n B eX1_isIn_0 0 rfl ?_
  refine j_lload_n B eX1_isIn_1 1 rfl ?_
  refine j_lcmp_lt B eX1_isIn_2 eX1_isIn_3 ho (fun _ ho => ?_) (fun _ ho => ?_)
  · refine j_const B eX1_isIn_17 ?_
    exact j_zret B hr rfl hQ eX1_isIn_18 ho
  · refine j_lload_n B eX1_isIn_6 0 rfl ?_
    refine j_lload B eX1_isIn_7 2 rfl ?_
    refine j_lcmp_gt B eX1_isIn_9 eX1_isIn_10 ho (fun _ ho => ?_) (fun _ ho => ?_)
    · refine j_const B eX1_isIn_17 ?_
      exact j_zret B hr rfl hQ eX1_isIn_18 ho
    · refine j_const B eX1_isIn_13 ?_
      refine j_goto B eX1_isIn_14 ?_
      exact j_zret B hr rfl hQ eX1_isIn_18 ho
def sM_oar (w : Wd) (a1 : Int32) (a2 : Int32) : Option (Int32 × Wd) :=
  bd (sM_isIn (Int32.toInt64 a1) (0 : Int64) (4 : Int64)) fun v1 => if v1 = 0 then (some ((-2 : Int32), w)) else (bd (sM_isIn (Int32.toInt64 a2) (30 : Int64) (150 : Int64)) fun v2 => if v2 = 0 then (some ((-2 : Int32), w)) else (if (w.2.1 90 10) = (16 : Int32) then (some ((-4 : Int32), w)) else (rd (inb (w.2.1 90 10) 16) (stG w 0 (Int32.toNatClampNeg (w.2.1 90 10)) a1) fun w3 => rd (inb (w3.2.1 90 10) 16) (stG w3 1 (Int32.toNatClampNeg (w3.2.1 90 10)) a2) fun w4 => rd (inb (w4.2.1 90 10) 16) (stG w4 2 (Int32.toNatClampNeg (w4.2.1 90 10)) (-1 : Int32)) fun w5 => nm (stG w5 90 10 ((w5.2.1 90 10) + (1 : Int32))) fun w6 => some (((w6.2.1 90 10) - (1 : Int32)), w6))))
abbrev rmX1_oar : Room := { frames := 1, cells := 0, slots := 0, locals := 25 }
theorem pkX1_oar : PkV yX1_oar RX1 cX1_oar 3 (some .int) 2 := ⟨q921, q922, q58, q923, by decide +kernel⟩
set_option maxHeartbeats 4000000 in
theorem met_X1_oar (l : Launch) (D : va_G) (g : Nat → ClassId) (ad : Nat → Nat) (w : Wd) (a1 : Int32) (a2 : Int32) (sz : Nat) (r : Int32) (w' : Wd) (ho : sM_oar w a1 a2 = some (r, w')) : Met l yX1_oar (ws_ yX1_oar cX1_oar 3 (some .int)) rmX1_oar (va_Pc [.ref (ad 99), .int a1, .int a2] (MPre D vwCl (tysG g) (cellsM g ad w) NT sz)) (QcI D vwCl (tysG g) (cellsM g ad w') r (va_A (cellsM g ad w) sz)) 0 0 (va_A (cellsM g ad w) sz) := by
  refine met_XJ (cw := cellsM g ad) (w := w) (cc := cX1_oar) (lv := [(0, .ref (ad 99)), (1, .int a1), (2, .int a2)]) pnX1 _ (Nat.le_of_ble_eq_true rfl) rfl ?_
  intro p e s m args below meth c R Q A B hN hr hsz hA hmm hRm hQ hAe
  unfold sM_oar at ho
  refine j_iload_n B eX1_oar_0 1 rfl ?_
  refine j_i2l B eX1_oar_1 ?_
  refine j_lconst (v := 0) B eX1_oar_2 rfl ?_
  refine j_ldc2 B eX1_oar_3 q924 ?_
  refine j_callSi (As := [.long (Int32.toInt64 a1), .long (0 : Int64), .long (4 : Int64)]) B hA (met_X1_isIn l D _ _ _ (Int32.toInt64 a1) (0 : Int64) (4 : Int64)) NT_ok pkX1_isIn q925 rfl rfl hRm ⟨Nat.le_of_ble_eq_true rfl, Nat.le_of_ble_eq_true rfl⟩ rfl rfl (Nat.le_of_ble_eq_true rfl) ⟨Nat.zero_le _, Nat.zero_le _⟩ eX1_oar_6 ho (fun v1 ho => ?_)
  refine j_if_eq B eX1_oar_9 ho (fun _ ho => ?_) (fun _ ho => ?_)
  · refine j_const B eX1_oar_26 ?_
    exact j_iretw B hr hQ eX1_oar_28 ho
  · refine j_iload_n B eX1_oar_12 2 rfl ?_
    refine j_i2l B eX1_oar_13 ?_
    refine j_ldc2 B eX1_oar_14 q928 ?_
    refine j_ldc2 B eX1_oar_17 q929 ?_
    refine j_callSi (As := [.long (Int32.toInt64 a2), .long (30 : Int64), .long (150 : Int64)]) B hA (met_X1_isIn l D _ _ _ (Int32.toInt64 a2) (30 : Int64) (150 : Int64)) NT_ok pkX1_isIn q925 rfl rfl hRm ⟨Nat.le_of_ble_eq_true rfl, Nat.le_of_ble_eq_true rfl⟩ rfl rfl (Nat.le_of_ble_eq_true rfl) ⟨Nat.zero_le _, Nat.zero_le _⟩ eX1_oar_20 ho (fun v2 ho => ?_)
    refine j_if_ne B eX1_oar_23 ho (fun _ ho => ?_) (fun _ ho => ?_)
    · refine j_aload_n B eX1_oar_29 0 rfl ?_
      refine gfM_10 B eX1_oar_30 ?_
      refine j_const B eX1_oar_33 ?_
      refine j_icmp_ne B eX1_oar_35 ho (fun _ ho => ?_) (fun _ ho => ?_)
      · refine j_aload_n B eX1_oar_41 0 rfl ?_
        refine gfM_0 B eX1_oar_42 ?_
        refine j_aload_n B eX1_oar_45 0 rfl ?_
        refine gfM_10 B eX1_oar_46 ?_
        refine j_iload_n B eX1_oar_49 1 rfl ?_
        refine stM_0 B eX1_oar_50 ho (fun w3 ho => ?_)
        refine j_aload_n B eX1_oar_51 0 rfl ?_
        refine gfM_1 B eX1_oar_52 ?_
        refine j_aload_n B eX1_oar_55 0 rfl ?_
        refine gfM_10 B eX1_oar_56 ?_
        refine j_iload_n B eX1_oar_59 2 rfl ?_
        refine stM_1 B eX1_oar_60 ho (fun w4 ho => ?_)
        refine j_aload_n B eX1_oar_61 0 rfl ?_
        refine gfM_2 B eX1_oar_62 ?_
        refine j_aload_n B eX1_oar_65 0 rfl ?_
        refine gfM_10 B eX1_oar_66 ?_
        refine j_const B eX1_oar_69 ?_
        refine stM_2 B eX1_oar_70 ho (fun w5 ho => ?_)
        refine j_aload_n B eX1_oar_71 0 rfl ?_
        refine j_dup B eX1_oar_72 rfl ?_
        refine gfM_10 B eX1_oar_73 ?_
        refine j_const B eX1_oar_76 ?_
        refine j_iadd B eX1_oar_77 ?_
        refine pfM_10 B eX1_oar_78 ho (fun w6 ho => ?_)
        refine j_aload_n B eX1_oar_81 0 rfl ?_
        refine gfM_10 B eX1_oar_82 ?_
        refine j_const B eX1_oar_85 ?_
        refine j_isub B eX1_oar_86 ?_
        exact j_iretw B hr hQ eX1_oar_87 ho
      · refine j_const B eX1_oar_38 ?_
        exact j_iretw B hr hQ eX1_oar_40 ho
    · refine j_const B eX1_oar_26 ?_
      exact j_iretw B hr hQ eX1_oar_28 ho
def sM_boat (w : Wd) (a1 : Int32) (a2 : Int32) (a3 : Int32) (a4 : Int32) : Option (Int32 × Wd) :=
  bd (sM_isIn (Int32.toInt64 a1) (0 : Int64) (4 : Int64)) fun v1 => if v1 = 0 then (some ((-2 : Int32), w)) else (bd (sM_isIn (Int32.toInt64 a2) (30 : Int64) (150 : Int64)) fun v2 => if v2 = 0 then (some ((-2 : Int32), w)) else (bd (sM_isIn (Int32.toInt64 a3) (Int32.toInt64 a2) (150 : Int64)) fun v3 => if v3 = 0 then (some ((-2 : Int32), w)) else (bd (sM_isIn (Int32.toInt64 a4) (1 : Int64) (99 : Int64)) fun v4 => if v4 = 0 then (some ((-2 : Int32), w)) else (if (w.2.1 90 11) = (8 : Int32) then (some ((-4 : Int32), w)) else (rd (inb (w.2.1 90 11) 8) (stG w 6 (Int32.toNatClampNeg (w.2.1 90 11)) a1) fun w5 => rd (inb (w5.2.1 90 11) 8) (stG w5 7 (Int32.toNatClampNeg (w5.2.1 90 11)) a2) fun w6 => rd (inb (w6.2.1 90 11) 8) (stG w6 8 (Int32.toNatClampNeg (w6.2.1 90 11)) a3) fun w7 => rd (inb (w7.2.1 90 11) 8) (stG w7 9 (Int32.toNatClampNeg (w7.2.1 90 11)) a4) fun w8 => nm (stG w8 90 11 ((w8.2.1 90 11) + (1 : Int32))) fun w9 => some (((w9.2.1 90 11) - (1 : Int32)), w9))))))
abbrev rmX1_boat : Room := { frames := 1, cells := 0, slots := 0, locals := 25 }
theorem pkX1_boat : PkV yX1_boat RX1 cX1_boat 5 (some .int) 4 := ⟨q931, q932, q58, q933, by decide +kernel⟩
set_option maxHeartbeats 4000000 in
theorem met_X1_boat (l : Launch) (D : va_G) (g : Nat → ClassId) (ad : Nat → Nat) (w : Wd) (a1 : Int32) (a2 : Int32) (a3 : Int32) (a4 : Int32) (sz : Nat) (r : Int32) (w' : Wd) (ho : sM_boat w a1 a2 a3 a4 = some (r, w')) : Met l yX1_boat (ws_ yX1_boat cX1_boat 5 (some .int)) rmX1_boat (va_Pc [.ref (ad 99), .int a1, .int a2, .int a3, .int a4] (MPre D vwCl (tysG g) (cellsM g ad w) NT sz)) (QcI D vwCl (tysG g) (cellsM g ad w') r (va_A (cellsM g ad w) sz)) 0 0 (va_A (cellsM g ad w) sz) := by
  refine met_XJ (cw := cellsM g ad) (w := w) (cc := cX1_boat) (lv := [(0, .ref (ad 99)), (1, .int a1), (2, .int a2), (3, .int a3), (4, .int a4)]) pnX1 _ (Nat.le_of_ble_eq_true rfl) rfl ?_
  intro p e s m args below meth c R Q A B hN hr hsz hA hmm hRm hQ hAe
  unfold sM_boat at ho
  refine j_iload_n B eX1_boat_0 1 rfl ?_
  refine j_i2l B eX1_boat_1 ?_
  refine j_lconst (v := 0) B eX1_boat_2 rfl ?_
  refine j_ldc2 B eX1_boat_3 q924 ?_
  refine j_callSi (As := [.long (Int32.toInt64 a1), .long (0 : Int64), .long (4 : Int64)]) B hA (met_X1_isIn l D _ _ _ (Int32.toInt64 a1) (0 : Int64) (4 : Int64)) NT_ok pkX1_isIn q925 rfl rfl hRm ⟨Nat.le_of_ble_eq_true rfl, Nat.le_of_ble_eq_true rfl⟩ rfl rfl (Nat.le_of_ble_eq_true rfl) ⟨Nat.zero_le _, Nat.zero_le _⟩ eX1_boat_6 ho (fun v1 ho => ?_)
  refine j_if_eq B eX1_boat_9 ho (fun _ ho => ?_) (fun _ ho => ?_)
  · refine j_const B eX1_boat_52 ?_
    exact j_iretw B hr hQ eX1_boat_54 ho
  · refine j_iload_n B eX1_boat_12 2 rfl ?_
    refine j_i2l B eX1_boat_13 ?_
    refine j_ldc2 B eX1_boat_14 q928 ?_
    refine j_ldc2 B eX1_boat_17 q929 ?_
    refine j_callSi (As := [.long (Int32.toInt64 a2), .long (30 : Int64), .long (150 : Int64)]) B hA (met_X1_isIn l D _ _ _ (Int32.toInt64 a2) (30 : Int64) (150 : Int64)) NT_ok pkX1_isIn q925 rfl rfl hRm ⟨Nat.le_of_ble_eq_true rfl, Nat.le_of_ble_eq_true rfl⟩ rfl rfl (Nat.le_of_ble_eq_true rfl) ⟨Nat.zero_le _, Nat.zero_le _⟩ eX1_boat_20 ho (fun v2 ho => ?_)
    refine j_if_eq B eX1_boat_23 ho (fun _ ho => ?_) (fun _ ho => ?_)
    · refine j_const B eX1_boat_52 ?_
      exact j_iretw B hr hQ eX1_boat_54 ho
    · refine j_iload_n B eX1_boat_26 3 rfl ?_
      refine j_i2l B eX1_boat_27 ?_
      refine j_iload_n B eX1_boat_28 2 rfl ?_
      refine j_i2l B eX1_boat_29 ?_
      refine j_ldc2 B eX1_boat_30 q929 ?_
      refine j_callSi (As := [.long (Int32.toInt64 a3), .long (Int32.toInt64 a2), .long (150 : Int64)]) B hA (met_X1_isIn l D _ _ _ (Int32.toInt64 a3) (Int32.toInt64 a2) (150 : Int64)) NT_ok pkX1_isIn q925 rfl rfl hRm ⟨Nat.le_of_ble_eq_true rfl, Nat.le_of_ble_eq_true rfl⟩ rfl rfl (Nat.le_of_ble_eq_true rfl) ⟨Nat.zero_le _, Nat.zero_le _⟩ eX1_boat_33 ho (fun v3 ho => ?_)
      refine j_if_eq B eX1_boat_36 ho (fun _ ho => ?_) (fun _ ho => ?_)
      · refine j_const B eX1_boat_52 ?_
        exact j_iretw B hr hQ eX1_boat_54 ho
      · refine j_iload B eX1_boat_39 4 rfl ?_
        refine j_i2l B eX1_boat_41 ?_
        refine j_lconst (v := 1) B eX1_boat_42 rfl ?_
        refine j_ldc2 B eX1_boat_43 q934 ?_
        refine j_callSi (As := [.long (Int32.toInt64 a4), .long (1 : Int64), .long (99 : Int64)]) B hA (met_X1_isIn l D _ _ _ (Int32.toInt64 a4) (1 : Int64) (99 : Int64)) NT_ok pkX1_isIn q925 rfl rfl hRm ⟨Nat.le_of_ble_eq_true rfl, Nat.le_of_ble_eq_true rfl⟩ rfl rfl (Nat.le_of_ble_eq_true rfl) ⟨Nat.zero_le _, Nat.zero_le _⟩ eX1_boat_46 ho (fun v4 ho => ?_)
        refine j_if_ne B eX1_boat_49 ho (fun _ ho => ?_) (fun _ ho => ?_)
        · refine j_aload_n B eX1_boat_55 0 rfl ?_
          refine gfM_11 B eX1_boat_56 ?_
          refine j_const B eX1_boat_59 ?_
          refine j_icmp_ne B eX1_boat_61 ho (fun _ ho => ?_) (fun _ ho => ?_)
          · refine j_aload_n B eX1_boat_67 0 rfl ?_
            refine gfM_6 B eX1_boat_68 ?_
            refine j_aload_n B eX1_boat_71 0 rfl ?_
            refine gfM_11 B eX1_boat_72 ?_
            refine j_iload_n B eX1_boat_75 1 rfl ?_
            refine stM_6 B eX1_boat_76 ho (fun w5 ho => ?_)
            refine j_aload_n B eX1_boat_77 0 rfl ?_
            refine gfM_7 B eX1_boat_78 ?_
            refine j_aload_n B eX1_boat_81 0 rfl ?_
            refine gfM_11 B eX1_boat_82 ?_
            refine j_iload_n B eX1_boat_85 2 rfl ?_
            refine stM_7 B eX1_boat_86 ho (fun w6 ho => ?_)
            refine j_aload_n B eX1_boat_87 0 rfl ?_
            refine gfM_8 B eX1_boat_88 ?_
            refine j_aload_n B eX1_boat_91 0 rfl ?_
            refine gfM_11 B eX1_boat_92 ?_
            refine j_iload_n B eX1_boat_95 3 rfl ?_
            refine stM_8 B eX1_boat_96 ho (fun w7 ho => ?_)
            refine j_aload_n B eX1_boat_97 0 rfl ?_
            refine gfM_9 B eX1_boat_98 ?_
            refine j_aload_n B eX1_boat_101 0 rfl ?_
            refine gfM_11 B eX1_boat_102 ?_
            refine j_iload B eX1_boat_105 4 rfl ?_
            refine stM_9 B eX1_boat_107 ho (fun w8 ho => ?_)
            refine j_aload_n B eX1_boat_108 0 rfl ?_
            refine j_dup B eX1_boat_109 rfl ?_
            refine gfM_11 B eX1_boat_110 ?_
            refine j_const B eX1_boat_113 ?_
            refine j_iadd B eX1_boat_114 ?_
            refine pfM_11 B eX1_boat_115 ho (fun w9 ho => ?_)
            refine j_aload_n B eX1_boat_118 0 rfl ?_
            refine gfM_11 B eX1_boat_119 ?_
            refine j_const B eX1_boat_122 ?_
            refine j_isub B eX1_boat_123 ?_
            exact j_iretw B hr hQ eX1_boat_124 ho
          · refine j_const B eX1_boat_64 ?_
            exact j_iretw B hr hQ eX1_boat_66 ho
        · refine j_const B eX1_boat_52 ?_
          exact j_iretw B hr hQ eX1_boat_54 ho
def sM_isOar (w : Wd) (a1 : Int32) : Option (Int32) :=
  if a1 < 0 then (some (0 : Int32)) else (if (w.2.1 90 10) ≤ a1 then (some (0 : Int32)) else (some (1 : Int32)))
abbrev rmX1_isOar : Room := { frames := 0, cells := 0, slots := 0, locals := 0 }
theorem pkX1_isOar : PkV yX1_isOar RX1 cX1_isOar 2 (some .boolean) 1 := ⟨q941, qs28, q58, q942, by decide +kernel⟩
set_option maxHeartbeats 4000000 in
theorem met_X1_isOar (l : Launch) (D : va_G) (g : Nat → ClassId) (ad : Nat → Nat) (w : Wd) (a1 : Int32) (sz : Nat) (r : Int32) (ho : sM_isOar w a1 = some r) : Met l yX1_isOar (ws_ yX1_isOar cX1_isOar 2 (some .boolean)) rmX1_isOar (va_Pc [.ref (ad 99), .int a1] (MPre D vwCl (tysG g) (cellsM g ad w) NT sz)) (QcI D vwCl (tysG g) (cellsM g ad w) r (va_A (cellsM g ad w) sz)) 0 0 (va_A (cellsM g ad w) sz) := by
  refine met_XJ (cw := cellsM g ad) (w := w) (cc := cX1_isOar) (lv := [(0, .ref (ad 99)), (1, .int a1)]) pnX1 _ (Nat.le_of_ble_eq_true rfl) rfl ?_
  intro p e s m args below meth c R Q A B hN hr hsz hA hmm hRm hQ hAe
  unfold sM_isOar at ho
  refine j_iload_n B eX1_isOar_0 1 rfl ?_
  refine j_if_lt B eX1_isOar_1 ho (fun _ ho => ?_) (fun _ ho => ?_)
  · refine j_const B eX1_isOar_16 ?_
    exact j_zret B hr rfl hQ eX1_isOar_17 ho
  · refine j_iload_n B eX1_isOar_4 1 rfl ?_
    refine j_aload_n B eX1_isOar_5 0 rfl ?_
    refine gfM_10 B eX1_isOar_6 ?_
    refine j_icmp_ge B eX1_isOar_9 ho (fun _ ho => ?_) (fun _ ho => ?_)
    · refine j_const B eX1_isOar_16 ?_
      exact j_zret B hr rfl hQ eX1_isOar_17 ho
    · refine j_const B eX1_isOar_12 ?_
      refine j_goto B eX1_isOar_13 ?_
      exact j_zret B hr rfl hQ eX1_isOar_17 ho
def sM_ill (w : Wd) (a1 : Int32) (a2 : Int32) : Option (Int32 × Wd) :=
  bd (sM_isOar w a1) fun v1 => if v1 = 0 then (some ((-1 : Int32), w)) else (bd (sM_isIn (Int32.toInt64 a2) (0 : Int64) (1 : Int64)) fun v2 => if v2 = 0 then (some ((-2 : Int32), w)) else (rd (inb a1 16) (w.2.1 4 (Int32.toNatClampNeg a1)) fun v3 => jn (fun z4 => nm z4 fun x6 => jn (fun z7 => rd (inb a1 16) (stG w 4 (Int32.toNatClampNeg a1) (vp_nar .boolean z7)) fun w9 => some (x6, w9)) fun J8 => if a2 = (1 : Int32) then (J8 (1 : Int32)) else (J8 (0 : Int32))) fun J5 => if v3 = 0 then (J5 (0 : Int32)) else (J5 (1 : Int32))))
abbrev rmX1_ill : Room := { frames := 1, cells := 0, slots := 0, locals := 25 }
theorem pkX1_ill : PkV yX1_ill RX1 cX1_ill 4 (some .int) 2 := ⟨q936, q937, q58, q938, by decide +kernel⟩
set_option maxHeartbeats 4000000 in
theorem met_X1_ill (l : Launch) (D : va_G) (g : Nat → ClassId) (ad : Nat → Nat) (w : Wd) (a1 : Int32) (a2 : Int32) (sz : Nat) (r : Int32) (w' : Wd) (ho : sM_ill w a1 a2 = some (r, w')) : Met l yX1_ill (ws_ yX1_ill cX1_ill 4 (some .int)) rmX1_ill (va_Pc [.ref (ad 99), .int a1, .int a2] (MPre D vwCl (tysG g) (cellsM g ad w) NT sz)) (QcI D vwCl (tysG g) (cellsM g ad w') r (va_A (cellsM g ad w) sz)) 0 0 (va_A (cellsM g ad w) sz) := by
  refine met_XJ (cw := cellsM g ad) (w := w) (cc := cX1_ill) (lv := [(0, .ref (ad 99)), (1, .int a1), (2, .int a2)]) pnX1 _ (Nat.le_of_ble_eq_true rfl) rfl ?_
  intro p e s m args below meth c R Q A B hN hr hsz hA hmm hRm hQ hAe
  unfold sM_ill at ho
  refine j_aload_n B eX1_ill_0 0 rfl ?_
  refine j_iload_n B eX1_ill_1 1 rfl ?_
  refine j_callVi (As := [.int a1]) B hA (met_X1_isOar l D g ad w a1) NT_ok pkX1_isOar q939 0 rfl rfl rfl rfl hRm ⟨Nat.le_of_ble_eq_true rfl, Nat.le_of_ble_eq_true rfl⟩ rfl rfl (Nat.le_of_ble_eq_true rfl) ⟨Nat.zero_le _, Nat.zero_le _⟩ eX1_ill_2 ho (fun v1 ho => ?_)
  refine j_if_ne B eX1_ill_5 ho (fun _ ho => ?_) (fun _ ho => ?_)
  · refine j_iload_n B eX1_ill_10 2 rfl ?_
    refine j_i2l B eX1_ill_11 ?_
    refine j_lconst (v := 0) B eX1_ill_12 rfl ?_
    refine j_lconst (v := 1) B eX1_ill_13 rfl ?_
    refine j_callSi (As := [.long (Int32.toInt64 a2), .long (0 : Int64), .long (1 : Int64)]) B hA (met_X1_isIn l D _ _ _ (Int32.toInt64 a2) (0 : Int64) (1 : Int64)) NT_ok pkX1_isIn q925 rfl rfl hRm ⟨Nat.le_of_ble_eq_true rfl, Nat.le_of_ble_eq_true rfl⟩ rfl rfl (Nat.le_of_ble_eq_true rfl) ⟨Nat.zero_le _, Nat.zero_le _⟩ eX1_ill_14 ho (fun v2 ho => ?_)
    refine j_if_ne B eX1_ill_17 ho (fun _ ho => ?_) (fun _ ho => ?_)
    · refine j_aload_n B eX1_ill_23 0 rfl ?_
      refine gfM_4 B eX1_ill_24 ?_
      refine j_iload_n B eX1_ill_27 1 rfl ?_
      refine ldM_4 B eX1_ill_28 ho (fun v3 ho => ?_)
      refine jn1 (C := fun z4 => XJ p l e R s m args below meth c 0 0 Q A D vwCl (cellsM g ad) 4 w 37 [(0, .ref (ad 99)), (1, .int a1), (2, .int a2)] [.int z4]) ho (fun z4 ho => ?_) (fun J5 hJ5 ho => ?_)
      · refine j_istore_n (lv' := fun x6 => [(0, .ref (ad 99)), (1, .int a1), (2, .int a2), (3, .int x6)]) B eX1_ill_37 [1, 2, 3, 0] (by decide) (fun _ => rfl) ho (fun x6 ho => ?_)
        refine j_aload_n B eX1_ill_38 0 rfl ?_
        refine gfM_4 B eX1_ill_39 ?_
        refine j_iload_n B eX1_ill_42 1 rfl ?_
        refine j_iload_n B eX1_ill_43 2 rfl ?_
        refine j_const B eX1_ill_44 ?_
        refine jn1 (C := fun z7 => XJ p l e R s m args below meth c 0 0 Q A D vwCl (cellsM g ad) 4 w 53 [(3, .int x6)] [.int z7, .int a1, .ref (ad 4)]) ho (fun z7 ho => ?_) (fun J8 hJ8 ho => ?_)
        · refine stM_4 B eX1_ill_53 ho (fun w9 ho => ?_)
          refine j_iload_n B eX1_ill_54 0 rfl ?_
          exact j_iretw B hr hQ eX1_ill_55 ho
        · refine j_icmp_ne B eX1_ill_45 ho (fun _ ho => ?_) (fun _ ho => ?_)
          · refine j_const B eX1_ill_52 ?_
            refine j_lsub (lv' := [(3, .int x6)]) [3] rfl ?_
            exact hJ8 _ ho
          · refine j_const B eX1_ill_48 ?_
            refine j_goto B eX1_ill_49 ?_
            refine j_lsub (lv' := [(3, .int x6)]) [3] rfl ?_
            exact hJ8 _ ho
      · refine j_if_eq B eX1_ill_29 ho (fun _ ho => ?_) (fun _ ho => ?_)
        · refine j_const B eX1_ill_36 ?_
          exact hJ5 _ ho
        · refine j_const B eX1_ill_32 ?_
          refine j_goto B eX1_ill_33 ?_
          exact hJ5 _ ho
    · refine j_const B eX1_ill_20 ?_
      exact j_iretw B hr hQ eX1_ill_22 ho
  · refine j_const B eX1_ill_8 ?_
    exact j_iretw B hr hQ eX1_ill_9 ho
def sM_isBoat (w : Wd) (a1 : Int32) : Option (Int32) :=
  if a1 < 0 then (some (0 : Int32)) else (if (w.2.1 90 11) ≤ a1 then (some (0 : Int32)) else (some (1 : Int32)))
abbrev rmX1_isBoat : Room := { frames := 0, cells := 0, slots := 0, locals := 0 }
theorem pkX1_isBoat : PkV yX1_isBoat RX1 cX1_isBoat 2 (some .boolean) 1 := ⟨q953, qs30, q58, q954, by decide +kernel⟩
set_option maxHeartbeats 4000000 in
theorem met_X1_isBoat (l : Launch) (D : va_G) (g : Nat → ClassId) (ad : Nat → Nat) (w : Wd) (a1 : Int32) (sz : Nat) (r : Int32) (ho : sM_isBoat w a1 = some r) : Met l yX1_isBoat (ws_ yX1_isBoat cX1_isBoat 2 (some .boolean)) rmX1_isBoat (va_Pc [.ref (ad 99), .int a1] (MPre D vwCl (tysG g) (cellsM g ad w) NT sz)) (QcI D vwCl (tysG g) (cellsM g ad w) r (va_A (cellsM g ad w) sz)) 0 0 (va_A (cellsM g ad w) sz) := by
  refine met_XJ (cw := cellsM g ad) (w := w) (cc := cX1_isBoat) (lv := [(0, .ref (ad 99)), (1, .int a1)]) pnX1 _ (Nat.le_of_ble_eq_true rfl) rfl ?_
  intro p e s m args below meth c R Q A B hN hr hsz hA hmm hRm hQ hAe
  unfold sM_isBoat at ho
  refine j_iload_n B eX1_isBoat_0 1 rfl ?_
  refine j_if_lt B eX1_isBoat_1 ho (fun _ ho => ?_) (fun _ ho => ?_)
  · refine j_const B eX1_isBoat_16 ?_
    exact j_zret B hr rfl hQ eX1_isBoat_17 ho
  · refine j_iload_n B eX1_isBoat_4 1 rfl ?_
    refine j_aload_n B eX1_isBoat_5 0 rfl ?_
    refine gfM_11 B eX1_isBoat_6 ?_
    refine j_icmp_ge B eX1_isBoat_9 ho (fun _ ho => ?_) (fun _ ho => ?_)
    · refine j_const B eX1_isBoat_16 ?_
      exact j_zret B hr rfl hQ eX1_isBoat_17 ho
    · refine j_const B eX1_isBoat_12 ?_
      refine j_goto B eX1_isBoat_13 ?_
      exact j_zret B hr rfl hQ eX1_isBoat_17 ho
def sM_seatsOf (w : Wd) (a1 : Int32) : Option (Int32) :=
  rd (inb a1 8) (w.2.1 6 (Int32.toNatClampNeg a1)) fun v1 => nm v1 fun x2 => if x2 = 0 then (some (2 : Int32)) else (if x2 = (2 : Int32) then (some (8 : Int32)) else (if x2 = (3 : Int32) then (some (1 : Int32)) else (some (4 : Int32))))
abbrev rmX1_seatsOf : Room := { frames := 0, cells := 0, slots := 0, locals := 0 }
theorem pkX1_seatsOf : PkV yX1_seatsOf RX1 cX1_seatsOf 3 (some .int) 1 := ⟨q957, qs31, q58, q958, by decide +kernel⟩
set_option maxHeartbeats 4000000 in
theorem met_X1_seatsOf (l : Launch) (D : va_G) (g : Nat → ClassId) (ad : Nat → Nat) (w : Wd) (a1 : Int32) (sz : Nat) (r : Int32) (ho : sM_seatsOf w a1 = some r) : Met l yX1_seatsOf (ws_ yX1_seatsOf cX1_seatsOf 3 (some .int)) rmX1_seatsOf (va_Pc [.ref (ad 99), .int a1] (MPre D vwCl (tysG g) (cellsM g ad w) NT sz)) (QcI D vwCl (tysG g) (cellsM g ad w) r (va_A (cellsM g ad w) sz)) 0 0 (va_A (cellsM g ad w) sz) := by
  refine met_XJ (cw := cellsM g ad) (w := w) (cc := cX1_seatsOf) (lv := [(0, .ref (ad 99)), (1, .int a1)]) pnX1 _ (Nat.le_of_ble_eq_true rfl) rfl ?_
  intro p e s m args below meth c R Q A B hN hr hsz hA hmm hRm hQ hAe
  unfold sM_seatsOf at ho
  refine j_aload_n B eX1_seatsOf_0 0 rfl ?_
  refine gfM_6 B eX1_seatsOf_1 ?_
  refine j_iload_n B eX1_seatsOf_4 1 rfl ?_
  refine ldM_6 B eX1_seatsOf_5 ho (fun v1 ho => ?_)
  refine j_istore_n (lv' := fun x2 => [(2, .int x2)]) B eX1_seatsOf_6 [0] (by decide) (fun _ => rfl) ho (fun x2 ho => ?_)
  refine j_iload_n B eX1_seatsOf_7 0 rfl ?_
  refine j_if_ne B eX1_seatsOf_8 ho (fun _ ho => ?_) (fun _ ho => ?_)
  · refine j_iload_n B eX1_seatsOf_15 0 rfl ?_
    refine j_const B eX1_seatsOf_16 ?_
    refine j_icmp_ne B eX1_seatsOf_17 ho (fun _ ho => ?_) (fun _ ho => ?_)
    · refine j_iload_n B eX1_seatsOf_25 0 rfl ?_
      refine j_const B eX1_seatsOf_26 ?_
      refine j_icmp_ne B eX1_seatsOf_27 ho (fun _ ho => ?_) (fun _ ho => ?_)
      · refine j_const B eX1_seatsOf_34 ?_
        exact j_iret B hr hQ eX1_seatsOf_35 ho
      · refine j_const B eX1_seatsOf_30 ?_
        refine j_goto B eX1_seatsOf_31 ?_
        exact j_iret B hr hQ eX1_seatsOf_35 ho
    · refine j_const B eX1_seatsOf_20 ?_
      refine j_goto B eX1_seatsOf_22 ?_
      exact j_iret B hr hQ eX1_seatsOf_35 ho
  · refine j_const B eX1_seatsOf_11 ?_
    refine j_goto B eX1_seatsOf_12 ?_
    exact j_iret B hr hQ eX1_seatsOf_35 ho
def sM_hasCox (w : Wd) (a1 : Int32) : Option (Int32) :=
  rd (inb a1 8) (w.2.1 6 (Int32.toNatClampNeg a1)) fun v1 => if v1 = (1 : Int32) then (some (1 : Int32)) else (rd (inb a1 8) (w.2.1 6 (Int32.toNatClampNeg a1)) fun v2 => if v2 = (2 : Int32) then (some (1 : Int32)) else (some (0 : Int32)))
abbrev rmX1_hasCox : Room := { frames := 0, cells := 0, slots := 0, locals := 0 }
theorem pkX1_hasCox : PkV yX1_hasCox RX1 cX1_hasCox 2 (some .boolean) 1 := ⟨q961, qs32, q58, q962, by decide +kernel⟩
set_option maxHeartbeats 4000000 in
theorem met_X1_hasCox (l : Launch) (D : va_G) (g : Nat → ClassId) (ad : Nat → Nat) (w : Wd) (a1 : Int32) (sz : Nat) (r : Int32) (ho : sM_hasCox w a1 = some r) : Met l yX1_hasCox (ws_ yX1_hasCox cX1_hasCox 2 (some .boolean)) rmX1_hasCox (va_Pc [.ref (ad 99), .int a1] (MPre D vwCl (tysG g) (cellsM g ad w) NT sz)) (QcI D vwCl (tysG g) (cellsM g ad w) r (va_A (cellsM g ad w) sz)) 0 0 (va_A (cellsM g ad w) sz) := by
  refine met_XJ (cw := cellsM g ad) (w := w) (cc := cX1_hasCox) (lv := [(0, .ref (ad 99)), (1, .int a1)]) pnX1 _ (Nat.le_of_ble_eq_true rfl) rfl ?_
  intro p e s m args below meth c R Q A B hN hr hsz hA hmm hRm hQ hAe
  unfold sM_hasCox at ho
  refine j_aload_n B eX1_hasCox_0 0 rfl ?_
  refine gfM_6 B eX1_hasCox_1 ?_
  refine j_iload_n B eX1_hasCox_4 1 rfl ?_
  refine ldM_6 B eX1_hasCox_5 ho (fun v1 ho => ?_)
  refine j_const B eX1_hasCox_6 ?_
  refine j_icmp_eq B eX1_hasCox_7 ho (fun _ ho => ?_) (fun _ ho => ?_)
  · refine j_const B eX1_hasCox_20 ?_
    refine j_goto B eX1_hasCox_21 ?_
    exact j_zret B hr rfl hQ eX1_hasCox_25 ho
  · refine j_aload_n B eX1_hasCox_10 0 rfl ?_
    refine gfM_6 B eX1_hasCox_11 ?_
    refine j_iload_n B eX1_hasCox_14 1 rfl ?_
    refine ldM_6 B eX1_hasCox_15 ho (fun v2 ho => ?_)
    refine j_const B eX1_hasCox_16 ?_
    refine j_icmp_ne B eX1_hasCox_17 ho (fun _ ho => ?_) (fun _ ho => ?_)
    · refine j_const B eX1_hasCox_24 ?_
      exact j_zret B hr rfl hQ eX1_hasCox_25 ho
    · refine j_const B eX1_hasCox_20 ?_
      refine j_goto B eX1_hasCox_21 ?_
      exact j_zret B hr rfl hQ eX1_hasCox_25 ho
def sM_isSeat (w : Wd) (a1 : Int32) (a2 : Int32) : Option (Int32) :=
  bd (sM_isBoat w a1) fun v1 => if v1 = 0 then (some (0 : Int32)) else (jn (if a2 = (8 : Int32) then (bd (sM_hasCox w a1) fun v3 => if v3 = 0 then (some (0 : Int32)) else (some (1 : Int32))) else (some (0 : Int32))) fun J2 => if a2 < 0 then (J2) else (bd (sM_seatsOf w a1) fun v4 => if a2 < v4 then (some (1 : Int32)) else (J2)))
abbrev rmX1_isSeat : Room := { frames := 1, cells := 0, slots := 0, locals := 22 }
theorem pkX1_isSeat : PkV yX1_isSeat RX1 cX1_isSeat 3 (some .boolean) 2 := ⟨q949, qs29, q58, q950, by decide +kernel⟩
set_option maxHeartbeats 4000000 in
theorem met_X1_isSeat (l : Launch) (D : va_G) (g : Nat → ClassId) (ad : Nat → Nat) (w : Wd) (a1 : Int32) (a2 : Int32) (sz : Nat) (r : Int32) (ho : sM_isSeat w a1 a2 = some r) : Met l yX1_isSeat (ws_ yX1_isSeat cX1_isSeat 3 (some .boolean)) rmX1_isSeat (va_Pc [.ref (ad 99), .int a1, .int a2] (MPre D vwCl (tysG g) (cellsM g ad w) NT sz)) (QcI D vwCl (tysG g) (cellsM g ad w) r (va_A (cellsM g ad w) sz)) 0 0 (va_A (cellsM g ad w) sz) := by
  refine met_XJ (cw := cellsM g ad) (w := w) (cc := cX1_isSeat) (lv := [(0, .ref (ad 99)), (1, .int a1), (2, .int a2)]) pnX1 _ (Nat.le_of_ble_eq_true rfl) rfl ?_
  intro p e s m args below meth c R Q A B hN hr hsz hA hmm hRm hQ hAe
  unfold sM_isSeat at ho
  refine j_aload_n B eX1_isSeat_0 0 rfl ?_
  refine j_iload_n B eX1_isSeat_1 1 rfl ?_
  refine j_callVi (As := [.int a1]) B hA (met_X1_isBoat l D g ad w a1) NT_ok pkX1_isBoat q951 0 rfl rfl rfl rfl hRm ⟨Nat.le_of_ble_eq_true rfl, Nat.le_of_ble_eq_true rfl⟩ rfl rfl (Nat.le_of_ble_eq_true rfl) ⟨Nat.zero_le _, Nat.zero_le _⟩ eX1_isSeat_2 ho (fun v1 ho => ?_)
  refine j_if_eq B eX1_isSeat_5 ho (fun _ ho => ?_) (fun _ ho => ?_)
  · refine j_const B eX1_isSeat_39 ?_
    exact j_zret B hr rfl hQ eX1_isSeat_40 ho
  · refine j_iload_n B eX1_isSeat_8 2 rfl ?_
    refine jn0 (C := XJ p l e R s m args below meth c 0 0 Q A D vwCl (cellsM g ad) 3 w 21 [(0, .ref (ad 99)), (1, .int a1), (2, .int a2)] []) ho (fun ho => ?_) (fun J2 hJ2 ho => ?_)
    · refine j_iload_n B eX1_isSeat_21 2 rfl ?_
      refine j_const B eX1_isSeat_22 ?_
      refine j_icmp_ne B eX1_isSeat_24 ho (fun _ ho => ?_) (fun _ ho => ?_)
      · refine j_const B eX1_isSeat_39 ?_
        exact j_zret B hr rfl hQ eX1_isSeat_40 ho
      · refine j_aload_n B eX1_isSeat_27 0 rfl ?_
        refine j_iload_n B eX1_isSeat_28 1 rfl ?_
        refine j_callVi (As := [.int a1]) B hA (met_X1_hasCox l D g ad w a1) NT_ok pkX1_hasCox q959 0 rfl rfl rfl rfl hRm ⟨Nat.le_of_ble_eq_true rfl, Nat.le_of_ble_eq_true rfl⟩ rfl rfl (Nat.le_of_ble_eq_true rfl) ⟨Nat.zero_le _, Nat.zero_le _⟩ eX1_isSeat_29 ho (fun v3 ho => ?_)
        refine j_if_eq B eX1_isSeat_32 ho (fun _ ho => ?_) (fun _ ho => ?_)
        · refine j_const B eX1_isSeat_39 ?_
          exact j_zret B hr rfl hQ eX1_isSeat_40 ho
        · refine j_const B eX1_isSeat_35 ?_
          refine j_goto B eX1_isSeat_36 ?_
          exact j_zret B hr rfl hQ eX1_isSeat_40 ho
    · refine j_if_lt B eX1_isSeat_9 ho (fun _ ho => ?_) (fun _ ho => ?_)
      · exact hJ2 ho
      · refine j_iload_n B eX1_isSeat_12 2 rfl ?_
        refine j_aload_n B eX1_isSeat_13 0 rfl ?_
        refine j_iload_n B eX1_isSeat_14 1 rfl ?_
        refine j_callVi (As := [.int a1]) B hA (met_X1_seatsOf l D g ad w a1) NT_ok pkX1_seatsOf q955 0 rfl rfl rfl rfl hRm ⟨Nat.le_of_ble_eq_true rfl, Nat.le_of_ble_eq_true rfl⟩ rfl rfl (Nat.le_of_ble_eq_true rfl) ⟨Nat.zero_le _, Nat.zero_le _⟩ eX1_isSeat_15 ho (fun v4 ho => ?_)
        refine j_icmp_lt B eX1_isSeat_18 ho (fun _ ho => ?_) (fun _ ho => ?_)
        · refine j_const B eX1_isSeat_35 ?_
          refine j_goto B eX1_isSeat_36 ?_
          exact j_zret B hr rfl hQ eX1_isSeat_40 ho
        · exact hJ2 ho
def sM_sitter_L5 (a1 : Int32) (a2 : Int32) (w : Wd) : Int32 → Int32 → Option (Int32) :=
  fx (fun _ _ => none) (fun self5 x3 x4 =>
    if (w.2.1 90 10) ≤ x4 then (some x3) else (rd (inb x4 16) (w.2.1 2 (Int32.toNatClampNeg x4)) fun v6 => jn (fun z7 => nm z7 fun x9 => nm (x4 + (1 : Int32)) fun x10 => self5 x9 x10) fun J8 => if v6 = a1 then (rd (inb x4 16) (w.2.1 3 (Int32.toNatClampNeg x4)) fun v11 => if v11 = a2 then (J8 x4) else (J8 x3)) else (J8 x3))) FU
def sM_sitter (w : Wd) (a1 : Int32) (a2 : Int32) : Option (Int32) :=
  nm (-1 : Int32) fun x1 => nm (0 : Int32) fun x2 => sM_sitter_L5 a1 a2 w x1 x2
abbrev rmX1_sitter : Room := { frames := 0, cells := 0, slots := 0, locals := 0 }
theorem pkX1_sitter : PkV yX1_sitter RX1 cX1_sitter 5 (some .int) 2 := ⟨q965, qs33, q58, q966, by decide +kernel⟩
set_option maxHeartbeats 4000000 in
theorem met_X1_sitter (l : Launch) (D : va_G) (g : Nat → ClassId) (ad : Nat → Nat) (w : Wd) (a1 : Int32) (a2 : Int32) (sz : Nat) (r : Int32) (ho : sM_sitter w a1 a2 = some r) : Met l yX1_sitter (ws_ yX1_sitter cX1_sitter 5 (some .int)) rmX1_sitter (va_Pc [.ref (ad 99), .int a1, .int a2] (MPre D vwCl (tysG g) (cellsM g ad w) NT sz)) (QcI D vwCl (tysG g) (cellsM g ad w) r (va_A (cellsM g ad w) sz)) 0 0 (va_A (cellsM g ad w) sz) := by
  refine met_XJ (cw := cellsM g ad) (w := w) (cc := cX1_sitter) (lv := [(0, .ref (ad 99)), (1, .int a1), (2, .int a2)]) pnX1 _ (Nat.le_of_ble_eq_true rfl) rfl ?_
  intro p e s m args below meth c R Q A B hN hr hsz hA hmm hRm hQ hAe
  unfold sM_sitter at ho
  refine j_const B eX1_sitter_0 ?_
  refine j_istore_n (lv' := fun x1 => [(0, .ref (ad 99)), (1, .int a1), (2, .int a2), (3, .int x1)]) B eX1_sitter_1 [1, 2, 3, 0] (by decide) (fun _ => rfl) ho (fun x1 ho => ?_)
  refine j_const B eX1_sitter_2 ?_
  refine j_istore (lv' := fun x2 => [(0, .ref (ad 99)), (1, .int a1), (2, .int a2), (3, .int x1), (4, .int x2)]) B eX1_sitter_3 [1, 2, 3, 4, 0] (by decide) (fun _ => rfl) ho (fun x2 ho => ?_)
  unfold sM_sitter_L5 at ho
  refine fx2 (C := fun x3 x4 => XJ p l e R s m args below meth c 0 0 Q A D vwCl (cellsM g ad) 5 w 5 [(0, .ref (ad 99)), (1, .int a1), (2, .int a2), (3, .int x3), (4, .int x4)] []) (fun self5 hself5 x3 x4 ho => ?_) FU _ _ ho
  refine j_iload B eX1_sitter_5 4 rfl ?_
  refine j_aload_n B eX1_sitter_7 0 rfl ?_
  refine gfM_10 B eX1_sitter_8 ?_
  refine j_icmp_ge B eX1_sitter_11 ho (fun _ ho => ?_) (fun _ ho => ?_)
  · refine j_iload_n B eX1_sitter_49 3 rfl ?_
    exact j_iret B hr hQ eX1_sitter_50 ho
  · refine j_aload_n B eX1_sitter_14 0 rfl ?_
    refine gfM_2 B eX1_sitter_15 ?_
    refine j_iload B eX1_sitter_18 4 rfl ?_
    refine ldM_2 B eX1_sitter_20 ho (fun v6 ho => ?_)
    refine j_iload_n B eX1_sitter_21 1 rfl ?_
    refine jn1 (C := fun z7 => XJ p l e R s m args below meth c 0 0 Q A D vwCl (cellsM g ad) 5 w 42 [(0, .ref (ad 99)), (1, .int a1), (2, .int a2), (4, .int x4)] [.int z7]) ho (fun z7 ho => ?_) (fun J8 hJ8 ho => ?_)
    · refine j_istore_n (lv' := fun x9 => [(0, .ref (ad 99)), (1, .int a1), (2, .int a2), (3, .int x9), (4, .int x4)]) B eX1_sitter_42 [1, 2, 3, 0, 4] (by decide) (fun _ => rfl) ho (fun x9 ho => ?_)
      refine j_iinc (d := 1) (lv' := fun x10 => [(0, .ref (ad 99)), (1, .int a1), (2, .int a2), (3, .int x9), (4, .int x10)]) B eX1_sitter_43 4 rfl (by decide) [1, 2, 3, 4, 0] (by decide) (fun _ => rfl) ho (fun x10 ho => ?_)
      refine j_goto B eX1_sitter_46 ?_
      exact hself5 _ _ ho
    · refine j_icmp_ne B eX1_sitter_22 ho (fun _ ho => ?_) (fun _ ho => ?_)
      · refine j_iload_n B eX1_sitter_41 3 rfl ?_
        refine j_lsub (lv' := [(0, .ref (ad 99)), (1, .int a1), (2, .int a2), (4, .int x4)]) [0, 1, 2, 4] rfl ?_
        exact hJ8 _ ho
      · refine j_aload_n B eX1_sitter_25 0 rfl ?_
        refine gfM_3 B eX1_sitter_26 ?_
        refine j_iload B eX1_sitter_29 4 rfl ?_
        refine ldM_3 B eX1_sitter_31 ho (fun v11 ho => ?_)
        refine j_iload_n B eX1_sitter_32 2 rfl ?_
        refine j_icmp_ne B eX1_sitter_33 ho (fun _ ho => ?_) (fun _ ho => ?_)
        · refine j_iload_n B eX1_sitter_41 3 rfl ?_
          refine j_lsub (lv' := [(0, .ref (ad 99)), (1, .int a1), (2, .int a2), (4, .int x4)]) [0, 1, 2, 4] rfl ?_
          exact hJ8 _ ho
        · refine j_iload B eX1_sitter_36 4 rfl ?_
          refine j_goto B eX1_sitter_38 ?_
          refine j_lsub (lv' := [(0, .ref (ad 99)), (1, .int a1), (2, .int a2), (4, .int x4)]) [0, 1, 2, 4] rfl ?_
          exact hJ8 _ ho
def sM_sit (w : Wd) (a1 : Int32) (a2 : Int32) (a3 : Int32) : Option (Int32 × Wd) :=
  bd (sM_isSeat w a1 a2) fun v1 => if v1 = 0 then (some ((-5 : Int32), w)) else (jn (jn (bd (sM_sitter w a1 a2) fun v4 => nm v4 fun x5 => jn (fun w6 => if a3 < 0 then (some (x5, w6)) else (rd (inb a3 16) (stG w6 2 (Int32.toNatClampNeg a3) a1) fun w8 => rd (inb a3 16) (stG w8 3 (Int32.toNatClampNeg a3) a2) fun w9 => some (x5, w9))) fun J7 => if x5 < 0 then (J7 w) else (rd (inb x5 16) (stG w 2 (Int32.toNatClampNeg x5) (-1 : Int32)) fun w10 => J7 w10)) fun J3 => if a3 < 0 then (J3) else (rd (inb a3 16) (w.2.1 4 (Int32.toNatClampNeg a3)) fun v11 => if v11 = 0 then (if a2 = (8 : Int32) then (rd (inb a3 16) (w.2.1 1 (Int32.toNatClampNeg a3)) fun v12 => if v12 ≤ (70 : Int32) then (J3) else (some ((-3 : Int32), w))) else (J3)) else (some ((-3 : Int32), w)))) fun J2 => if a3 = (-1 : Int32) then (J2) else (bd (sM_isOar w a3) fun v13 => if v13 = 0 then (some ((-5 : Int32), w)) else (J2)))
abbrev rmX1_sit : Room := { frames := 2, cells := 0, slots := 0, locals := 44 }
theorem pkX1_sit : PkV yX1_sit RX1 cX1_sit 5 (some .int) 3 := ⟨q944, q945, q58, q946, by decide +kernel⟩
set_option maxHeartbeats 4000000 in
theorem met_X1_sit (l : Launch) (D : va_G) (g : Nat → ClassId) (ad : Nat → Nat) (w : Wd) (a1 : Int32) (a2 : Int32) (a3 : Int32) (sz : Nat) (r : Int32) (w' : Wd) (ho : sM_sit w a1 a2 a3 = some (r, w')) : Met l yX1_sit (ws_ yX1_sit cX1_sit 5 (some .int)) rmX1_sit (va_Pc [.ref (ad 99), .int a1, .int a2, .int a3] (MPre D vwCl (tysG g) (cellsM g ad w) NT sz)) (QcI D vwCl (tysG g) (cellsM g ad w') r (va_A (cellsM g ad w) sz)) 0 0 (va_A (cellsM g ad w) sz) := by
  refine met_XJ (cw := cellsM g ad) (w := w) (cc := cX1_sit) (lv := [(0, .ref (ad 99)), (1, .int a1), (2, .int a2), (3, .int a3)]) pnX1 _ (Nat.le_of_ble_eq_true rfl) rfl ?_
  intro p e s m args below meth c R Q A B hN hr hsz hA hmm hRm hQ hAe
  unfold sM_sit at ho
  refine j_aload_n B eX1_sit_0 0 rfl ?_
  refine j_iload_n B eX1_sit_1 1 rfl ?_
  refine j_iload_n B eX1_sit_2 2 rfl ?_
  refine j_callVi (As := [.int a1, .int a2]) B hA (met_X1_isSeat l D g ad w a1 a2) NT_ok pkX1_isSeat q947 0 rfl rfl rfl rfl hRm ⟨Nat.le_of_ble_eq_true rfl, Nat.le_of_ble_eq_true rfl⟩ rfl rfl (Nat.le_of_ble_eq_true rfl) ⟨Nat.zero_le _, Nat.zero_le _⟩ eX1_sit_3 ho (fun v1 ho => ?_)
  refine j_if_eq B eX1_sit_6 ho (fun _ ho => ?_) (fun _ ho => ?_)
  · refine j_const B eX1_sit_22 ?_
    exact j_iretw B hr hQ eX1_sit_24 ho
  · refine j_iload_n B eX1_sit_9 3 rfl ?_
    refine j_const B eX1_sit_10 ?_
    refine jn0 (C := XJ p l e R s m args below meth c 0 0 Q A D vwCl (cellsM g ad) 5 w 25 [(0, .ref (ad 99)), (1, .int a1), (2, .int a2), (3, .int a3)] []) ho (fun ho => ?_) (fun J2 hJ2 ho => ?_)
    · refine j_iload_n B eX1_sit_25 3 rfl ?_
      refine jn0 (C := XJ p l e R s m args below meth c 0 0 Q A D vwCl (cellsM g ad) 5 w 58 [(0, .ref (ad 99)), (1, .int a1), (2, .int a2), (3, .int a3)] []) ho (fun ho => ?_) (fun J3 hJ3 ho => ?_)
      · refine j_aload_n B eX1_sit_58 0 rfl ?_
        refine j_iload_n B eX1_sit_59 1 rfl ?_
        refine j_iload_n B eX1_sit_60 2 rfl ?_
        refine j_callVi (As := [.int a1, .int a2]) B hA (met_X1_sitter l D g ad w a1 a2) NT_ok pkX1_sitter q963 0 rfl rfl rfl rfl hRm ⟨Nat.le_of_ble_eq_true rfl, Nat.le_of_ble_eq_true rfl⟩ rfl rfl (Nat.le_of_ble_eq_true rfl) ⟨Nat.zero_le _, Nat.zero_le _⟩ eX1_sit_61 ho (fun v4 ho => ?_)
        refine j_istore (lv' := fun x5 => [(0, .ref (ad 99)), (1, .int a1), (2, .int a2), (3, .int a3), (4, .int x5)]) B eX1_sit_64 [1, 2, 3, 4, 0] (by decide) (fun _ => rfl) ho (fun x5 ho => ?_)
        refine j_iload B eX1_sit_66 4 rfl ?_
        refine jn1 (C := fun w6 => XJ p l e R s m args below meth c 0 0 Q A D vwCl (cellsM g ad) 5 w6 79 [(0, .ref (ad 99)), (1, .int a1), (2, .int a2), (3, .int a3), (4, .int x5)] []) ho (fun w6 ho => ?_) (fun J7 hJ7 ho => ?_)
        · refine j_iload_n B eX1_sit_79 3 rfl ?_
          refine j_if_lt B eX1_sit_80 ho (fun _ ho => ?_) (fun _ ho => ?_)
          · refine j_iload B eX1_sit_97 4 rfl ?_
            exact j_iretw B hr hQ eX1_sit_99 ho
          · refine j_aload_n B eX1_sit_83 0 rfl ?_
            refine gfM_2 B eX1_sit_84 ?_
            refine j_iload_n B eX1_sit_87 3 rfl ?_
            refine j_iload_n B eX1_sit_88 1 rfl ?_
            refine stM_2 B eX1_sit_89 ho (fun w8 ho => ?_)
            refine j_aload_n B eX1_sit_90 0 rfl ?_
            refine gfM_3 B eX1_sit_91 ?_
            refine j_iload_n B eX1_sit_94 3 rfl ?_
            refine j_iload_n B eX1_sit_95 2 rfl ?_
            refine stM_3 B eX1_sit_96 ho (fun w9 ho => ?_)
            refine j_iload B eX1_sit_97 4 rfl ?_
            exact j_iretw B hr hQ eX1_sit_99 ho
        · refine j_if_lt B eX1_sit_68 ho (fun _ ho => ?_) (fun _ ho => ?_)
          · exact hJ7 _ ho
          · refine j_aload_n B eX1_sit_71 0 rfl ?_
            refine gfM_2 B eX1_sit_72 ?_
            refine j_iload B eX1_sit_75 4 rfl ?_
            refine j_const B eX1_sit_77 ?_
            refine stM_2 B eX1_sit_78 ho (fun w10 ho => ?_)
            exact hJ7 _ ho
      · refine j_if_lt B eX1_sit_26 ho (fun _ ho => ?_) (fun _ ho => ?_)
        · exact hJ3 ho
        · refine j_aload_n B eX1_sit_29 0 rfl ?_
          refine gfM_4 B eX1_sit_30 ?_
          refine j_iload_n B eX1_sit_33 3 rfl ?_
          refine ldM_4 B eX1_sit_34 ho (fun v11 ho => ?_)
          refine j_if_ne B eX1_sit_35 ho (fun _ ho => ?_) (fun _ ho => ?_)
          · refine j_const B eX1_sit_55 ?_
            exact j_iretw B hr hQ eX1_sit_57 ho
          · refine j_iload_n B eX1_sit_38 2 rfl ?_
            refine j_const B eX1_sit_39 ?_
            refine j_icmp_ne B eX1_sit_41 ho (fun _ ho => ?_) (fun _ ho => ?_)
            · exact hJ3 ho
            · refine j_aload_n B eX1_sit_44 0 rfl ?_
              refine gfM_1 B eX1_sit_45 ?_
              refine j_iload_n B eX1_sit_48 3 rfl ?_
              refine ldM_1 B eX1_sit_49 ho (fun v12 ho => ?_)
              refine j_const B eX1_sit_50 ?_
              refine j_icmp_le B eX1_sit_52 ho (fun _ ho => ?_) (fun _ ho => ?_)
              · exact hJ3 ho
              · refine j_const B eX1_sit_55 ?_
                exact j_iretw B hr hQ eX1_sit_57 ho
    · refine j_icmp_eq B eX1_sit_11 ho (fun _ ho => ?_) (fun _ ho => ?_)
      · exact hJ2 ho
      · refine j_aload_n B eX1_sit_14 0 rfl ?_
        refine j_iload_n B eX1_sit_15 3 rfl ?_
        refine j_callVi (As := [.int a3]) B hA (met_X1_isOar l D g ad w a3) NT_ok pkX1_isOar q939 0 rfl rfl rfl rfl hRm ⟨Nat.le_of_ble_eq_true rfl, Nat.le_of_ble_eq_true rfl⟩ rfl rfl (Nat.le_of_ble_eq_true rfl) ⟨Nat.zero_le _, Nat.zero_le _⟩ eX1_sit_16 ho (fun v13 ho => ?_)
        refine j_if_ne B eX1_sit_19 ho (fun _ ho => ?_) (fun _ ho => ?_)
        · exact hJ2 ho
        · refine j_const B eX1_sit_22 ?_
          exact j_iretw B hr hQ eX1_sit_24 ho
def sM_seat (w : Wd) (a1 : Int32) (a2 : Int32) : Option (Int32) :=
  bd (sM_isSeat w a1 a2) fun v1 => if v1 = 0 then (some (-1 : Int32)) else (bd (sM_sitter w a1 a2) fun v2 => some v2)
abbrev rmX1_seat : Room := { frames := 2, cells := 0, slots := 0, locals := 44 }
theorem pkX1_seat : PkV yX1_seat RX1 cX1_seat 3 (some .int) 2 := ⟨q968, q969, q58, q970, by decide +kernel⟩
set_option maxHeartbeats 4000000 in
theorem met_X1_seat (l : Launch) (D : va_G) (g : Nat → ClassId) (ad : Nat → Nat) (w : Wd) (a1 : Int32) (a2 : Int32) (sz : Nat) (r : Int32) (ho : sM_seat w a1 a2 = some r) : Met l yX1_seat (ws_ yX1_seat cX1_seat 3 (some .int)) rmX1_seat (va_Pc [.ref (ad 99), .int a1, .int a2] (MPre D vwCl (tysG g) (cellsM g ad w) NT sz)) (QcI D vwCl (tysG g) (cellsM g ad w) r (va_A (cellsM g ad w) sz)) 0 0 (va_A (cellsM g ad w) sz) := by
  refine met_XJ (cw := cellsM g ad) (w := w) (cc := cX1_seat) (lv := [(0, .ref (ad 99)), (1, .int a1), (2, .int a2)]) pnX1 _ (Nat.le_of_ble_eq_true rfl) rfl ?_
  intro p e s m args below meth c R Q A B hN hr hsz hA hmm hRm hQ hAe
  unfold sM_seat at ho
  refine j_aload_n B eX1_seat_0 0 rfl ?_
  refine j_iload_n B eX1_seat_1 1 rfl ?_
  refine j_iload_n B eX1_seat_2 2 rfl ?_
  refine j_callVi (As := [.int a1, .int a2]) B hA (met_X1_isSeat l D g ad w a1 a2) NT_ok pkX1_isSeat q947 0 rfl rfl rfl rfl hRm ⟨Nat.le_of_ble_eq_true rfl, Nat.le_of_ble_eq_true rfl⟩ rfl rfl (Nat.le_of_ble_eq_true rfl) ⟨Nat.zero_le _, Nat.zero_le _⟩ eX1_seat_3 ho (fun v1 ho => ?_)
  refine j_if_eq B eX1_seat_6 ho (fun _ ho => ?_) (fun _ ho => ?_)
  · refine j_const B eX1_seat_18 ?_
    exact j_iret B hr hQ eX1_seat_19 ho
  · refine j_aload_n B eX1_seat_9 0 rfl ?_
    refine j_iload_n B eX1_seat_10 1 rfl ?_
    refine j_iload_n B eX1_seat_11 2 rfl ?_
    refine j_callVi (As := [.int a1, .int a2]) B hA (met_X1_sitter l D g ad w a1 a2) NT_ok pkX1_sitter q963 0 rfl rfl rfl rfl hRm ⟨Nat.le_of_ble_eq_true rfl, Nat.le_of_ble_eq_true rfl⟩ rfl rfl (Nat.le_of_ble_eq_true rfl) ⟨Nat.zero_le _, Nat.zero_le _⟩ eX1_seat_12 ho (fun v2 ho => ?_)
    refine j_goto B eX1_seat_15 ?_
    exact j_iret B hr hQ eX1_seat_19 ho
def sM_about (w : Wd) (a1 : Int32) (a2 : Int32) : Option (Int32) :=
  bd (sM_isOar w a1) fun v1 => if v1 = 0 then (some (-1 : Int32)) else (if a2 = (0 : Int32) then (rd (inb a1 16) (w.2.1 0 (Int32.toNatClampNeg a1)) fun v2 => some v2) else (if a2 = (1 : Int32) then (rd (inb a1 16) (w.2.1 1 (Int32.toNatClampNeg a1)) fun v3 => some v3) else (if a2 = (2 : Int32) then (rd (inb a1 16) (w.2.1 4 (Int32.toNatClampNeg a1)) fun v4 => if v4 = 0 then (some (0 : Int32)) else (some (1 : Int32))) else (if a2 = (3 : Int32) then (rd (inb a1 16) (w.2.1 2 (Int32.toNatClampNeg a1)) fun v5 => if 0 ≤ v5 then (rd (inb a1 16) (w.2.1 2 (Int32.toNatClampNeg a1)) fun v6 => rd (inb a1 16) (w.2.1 3 (Int32.toNatClampNeg a1)) fun v7 => some (((10 : Int32) * v6) + v7)) else (some (-1 : Int32))) else (some (-1 : Int32))))))
abbrev rmX1_about : Room := { frames := 1, cells := 0, slots := 0, locals := 21 }
theorem pkX1_about : PkV yX1_about RX1 cX1_about 3 (some .int) 2 := ⟨q972, q973, q58, q974, by decide +kernel⟩
set_option maxHeartbeats 4000000 in
theorem met_X1_about (l : Launch) (D : va_G) (g : Nat → ClassId) (ad : Nat → Nat) (w : Wd) (a1 : Int32) (a2 : Int32) (sz : Nat) (r : Int32) (ho : sM_about w a1 a2 = some r) : Met l yX1_about (ws_ yX1_about cX1_about 3 (some .int)) rmX1_about (va_Pc [.ref (ad 99), .int a1, .int a2] (MPre D vwCl (tysG g) (cellsM g ad w) NT sz)) (QcI D vwCl (tysG g) (cellsM g ad w) r (va_A (cellsM g ad w) sz)) 0 0 (va_A (cellsM g ad w) sz) := by
  refine met_XJ (cw := cellsM g ad) (w := w) (cc := cX1_about) (lv := [(0, .ref (ad 99)), (1, .int a1), (2, .int a2)]) pnX1 _ (Nat.le_of_ble_eq_true rfl) rfl ?_
  intro p e s m args below meth c R Q A B hN hr hsz hA hmm hRm hQ hAe
  unfold sM_about at ho
  refine j_aload_n B eX1_about_0 0 rfl ?_
  refine j_iload_n B eX1_about_1 1 rfl ?_
  refine j_callVi (As := [.int a1]) B hA (met_X1_isOar l D g ad w a1) NT_ok pkX1_isOar q939 0 rfl rfl rfl rfl hRm ⟨Nat.le_of_ble_eq_true rfl, Nat.le_of_ble_eq_true rfl⟩ rfl rfl (Nat.le_of_ble_eq_true rfl) ⟨Nat.zero_le _, Nat.zero_le _⟩ eX1_about_2 ho (fun v1 ho => ?_)
  refine j_if_ne B eX1_about_5 ho (fun _ ho => ?_) (fun _ ho => ?_)
  · refine j_iload_n B eX1_about_10 2 rfl ?_
    rcases sw_e ho with ⟨hs0, ho⟩ | ⟨hs0, ho⟩
    · refine j_tswIn (tgt := 40) B eX1_about_11 0 hs0 (by decide) (by decide) rfl (by decide) ?_
      refine j_aload_n B eX1_about_40 0 rfl ?_
      refine gfM_0 B eX1_about_41 ?_
      refine j_iload_n B eX1_about_44 1 rfl ?_
      refine ldM_0 B eX1_about_45 ho (fun v2 ho => ?_)
      exact j_iret B hr hQ eX1_about_46 ho
    · rcases sw_e ho with ⟨hs1, ho⟩ | ⟨hs1, ho⟩
      · refine j_tswIn (tgt := 47) B eX1_about_11 1 hs1 (by decide) (by decide) rfl (by decide) ?_
        refine j_aload_n B eX1_about_47 0 rfl ?_
        refine gfM_1 B eX1_about_48 ?_
        refine j_iload_n B eX1_about_51 1 rfl ?_
        refine ldM_1 B eX1_about_52 ho (fun v3 ho => ?_)
        exact j_iret B hr hQ eX1_about_53 ho
      · rcases sw_e ho with ⟨hs2, ho⟩ | ⟨hs2, ho⟩
        · refine j_tswIn (tgt := 54) B eX1_about_11 2 hs2 (by decide) (by decide) rfl (by decide) ?_
          refine j_aload_n B eX1_about_54 0 rfl ?_
          refine gfM_4 B eX1_about_55 ?_
          refine j_iload_n B eX1_about_58 1 rfl ?_
          refine ldM_4 B eX1_about_59 ho (fun v4 ho => ?_)
          refine j_if_eq B eX1_about_60 ho (fun _ ho => ?_) (fun _ ho => ?_)
          · refine j_const B eX1_about_67 ?_
            exact j_iret B hr hQ eX1_about_68 ho
          · refine j_const B eX1_about_63 ?_
            refine j_goto B eX1_about_64 ?_
            exact j_iret B hr hQ eX1_about_68 ho
        · rcases sw_e ho with ⟨hs3, ho⟩ | ⟨hs3, ho⟩
          · refine j_tswIn (tgt := 69) B eX1_about_11 3 hs3 (by decide) (by decide) rfl (by decide) ?_
            refine j_aload_n B eX1_about_69 0 rfl ?_
            refine gfM_2 B eX1_about_70 ?_
            refine j_iload_n B eX1_about_73 1 rfl ?_
            refine ldM_2 B eX1_about_74 ho (fun v5 ho => ?_)
            refine j_if_ge B eX1_about_75 ho (fun _ ho => ?_) (fun _ ho => ?_)
            · refine j_const B eX1_about_82 ?_
              refine j_aload_n B eX1_about_84 0 rfl ?_
              refine gfM_2 B eX1_about_85 ?_
              refine j_iload_n B eX1_about_88 1 rfl ?_
              refine ldM_2 B eX1_about_89 ho (fun v6 ho => ?_)
              refine j_imul B eX1_about_90 ?_
              refine j_aload_n B eX1_about_91 0 rfl ?_
              refine gfM_3 B eX1_about_92 ?_
              refine j_iload_n B eX1_about_95 1 rfl ?_
              refine ldM_3 B eX1_about_96 ho (fun v7 ho => ?_)
              refine j_iadd B eX1_about_97 ?_
              exact j_iret B hr hQ eX1_about_98 ho
            · refine j_const B eX1_about_78 ?_
              refine j_goto B eX1_about_79 ?_
              exact j_iret B hr hQ eX1_about_98 ho
          · refine j_tswOut (tgt := 99) B eX1_about_11 (by have a0 := lv_neT hs0 (a := 0) (by decide); have a1 := lv_neT hs1 (a := 1) (by decide); have a2 := lv_neT hs2 (a := 2) (by decide); have a3 := lv_neT hs3 (a := 3) (by decide); omega) (by decide) ?_
            refine j_const B eX1_about_99 ?_
            exact j_iret B hr hQ eX1_about_100 ho
  · refine j_const B eX1_about_8 ?_
    exact j_iret B hr hQ eX1_about_9 ho
def sM_race (w : Wd) (a1 : Int32) (a2 : Int32) (a3 : Int32) : Option (Int32 × Wd) :=
  bd (sM_isOar w a1) fun v1 => if v1 = 0 then (some ((-1 : Int32), w)) else (bd (sM_isOar w a2) fun v2 => if v2 = 0 then (some ((-1 : Int32), w)) else (if a1 = a2 then (some ((-2 : Int32), w)) else (bd (sM_isIn (Int32.toInt64 a3) (-999 : Int64) (999 : Int64)) fun v3 => if v3 = 0 then (some ((-2 : Int32), w)) else (if (w.2.1 90 16) = (40 : Int32) then (some ((-4 : Int32), w)) else (rd (inb (w.2.1 90 16) 40) (stG w 12 (Int32.toNatClampNeg (w.2.1 90 16)) a1) fun w4 => rd (inb (w4.2.1 90 16) 40) (stG w4 13 (Int32.toNatClampNeg (w4.2.1 90 16)) a2) fun w5 => rd (inb (w5.2.1 90 16) 40) (stG w5 14 (Int32.toNatClampNeg (w5.2.1 90 16)) a3) fun w6 => nm (stG w6 90 16 ((w6.2.1 90 16) + (1 : Int32))) fun w7 => some ((w7.2.1 90 16), w7))))))
abbrev rmX1_race : Room := { frames := 1, cells := 0, slots := 0, locals := 25 }
theorem pkX1_race : PkV yX1_race RX1 cX1_race 4 (some .int) 3 := ⟨q976, q977, q58, q978, by decide +kernel⟩
set_option maxHeartbeats 4000000 in
theorem met_X1_race (l : Launch) (D : va_G) (g : Nat → ClassId) (ad : Nat → Nat) (w : Wd) (a1 : Int32) (a2 : Int32) (a3 : Int32) (sz : Nat) (r : Int32) (w' : Wd) (ho : sM_race w a1 a2 a3 = some (r, w')) : Met l yX1_race (ws_ yX1_race cX1_race 4 (some .int)) rmX1_race (va_Pc [.ref (ad 99), .int a1, .int a2, .int a3] (MPre D vwCl (tysG g) (cellsM g ad w) NT sz)) (QcI D vwCl (tysG g) (cellsM g ad w') r (va_A (cellsM g ad w) sz)) 0 0 (va_A (cellsM g ad w) sz) := by
  refine met_XJ (cw := cellsM g ad) (w := w) (cc := cX1_race) (lv := [(0, .ref (ad 99)), (1, .int a1), (2, .int a2), (3, .int a3)]) pnX1 _ (Nat.le_of_ble_eq_true rfl) rfl ?_
  intro p e s m args below meth c R Q A B hN hr hsz hA hmm hRm hQ hAe
  unfold sM_race at ho
  refine j_aload_n B eX1_race_0 0 rfl ?_
  refine j_iload_n B eX1_race_1 1 rfl ?_
  refine j_callVi (As := [.int a1]) B hA (met_X1_isOar l D g ad w a1) NT_ok pkX1_isOar q939 0 rfl rfl rfl rfl hRm ⟨Nat.le_of_ble_eq_true rfl, Nat.le_of_ble_eq_true rfl⟩ rfl rfl (Nat.le_of_ble_eq_true rfl) ⟨Nat.zero_le _, Nat.zero_le _⟩ eX1_race_2 ho (fun v1 ho => ?_)
  refine j_if_eq B eX1_race_5 ho (fun _ ho => ?_) (fun _ ho => ?_)
  · refine j_const B eX1_race_16 ?_
    exact j_iretw B hr hQ eX1_race_17 ho
  · refine j_aload_n B eX1_race_8 0 rfl ?_
    refine j_iload_n B eX1_race_9 2 rfl ?_
    refine j_callVi (As := [.int a2]) B hA (met_X1_isOar l D g ad w a2) NT_ok pkX1_isOar q939 0 rfl rfl rfl rfl hRm ⟨Nat.le_of_ble_eq_true rfl, Nat.le_of_ble_eq_true rfl⟩ rfl rfl (Nat.le_of_ble_eq_true rfl) ⟨Nat.zero_le _, Nat.zero_le _⟩ eX1_race_10 ho (fun v2 ho => ?_)
    refine j_if_ne B eX1_race_13 ho (fun _ ho => ?_) (fun _ ho => ?_)
    · refine j_iload_n B eX1_race_18 1 rfl ?_
      refine j_iload_n B eX1_race_19 2 rfl ?_
      refine j_icmp_eq B eX1_race_20 ho (fun _ ho => ?_) (fun _ ho => ?_)
      · refine j_const B eX1_race_37 ?_
        exact j_iretw B hr hQ eX1_race_39 ho
      · refine j_iload_n B eX1_race_23 3 rfl ?_
        refine j_i2l B eX1_race_24 ?_
        refine j_ldc2 B eX1_race_25 q979 ?_
        refine j_ldc2 B eX1_race_28 q980 ?_
        refine j_callSi (As := [.long (Int32.toInt64 a3), .long (-999 : Int64), .long (999 : Int64)]) B hA (met_X1_isIn l D _ _ _ (Int32.toInt64 a3) (-999 : Int64) (999 : Int64)) NT_ok pkX1_isIn q925 rfl rfl hRm ⟨Nat.le_of_ble_eq_true rfl, Nat.le_of_ble_eq_true rfl⟩ rfl rfl (Nat.le_of_ble_eq_true rfl) ⟨Nat.zero_le _, Nat.zero_le _⟩ eX1_race_31 ho (fun v3 ho => ?_)
        refine j_if_ne B eX1_race_34 ho (fun _ ho => ?_) (fun _ ho => ?_)
        · refine j_aload_n B eX1_race_40 0 rfl ?_
          refine gfM_16 B eX1_race_41 ?_
          refine j_const B eX1_race_44 ?_
          refine j_icmp_ne B eX1_race_46 ho (fun _ ho => ?_) (fun _ ho => ?_)
          · refine j_aload_n B eX1_race_52 0 rfl ?_
            refine gfM_12 B eX1_race_53 ?_
            refine j_aload_n B eX1_race_56 0 rfl ?_
            refine gfM_16 B eX1_race_57 ?_
            refine j_iload_n B eX1_race_60 1 rfl ?_
            refine stM_12 B eX1_race_61 ho (fun w4 ho => ?_)
            refine j_aload_n B eX1_race_62 0 rfl ?_
            refine gfM_13 B eX1_race_63 ?_
            refine j_aload_n B eX1_race_66 0 rfl ?_
            refine gfM_16 B eX1_race_67 ?_
            refine j_iload_n B eX1_race_70 2 rfl ?_
            refine stM_13 B eX1_race_71 ho (fun w5 ho => ?_)
            refine j_aload_n B eX1_race_72 0 rfl ?_
            refine gfM_14 B eX1_race_73 ?_
            refine j_aload_n B eX1_race_76 0 rfl ?_
            refine gfM_16 B eX1_race_77 ?_
            refine j_iload_n B eX1_race_80 3 rfl ?_
            refine stM_14 B eX1_race_81 ho (fun w6 ho => ?_)
            refine j_aload_n B eX1_race_82 0 rfl ?_
            refine j_dup B eX1_race_83 rfl ?_
            refine gfM_16 B eX1_race_84 ?_
            refine j_const B eX1_race_87 ?_
            refine j_iadd B eX1_race_88 ?_
            refine pfM_16 B eX1_race_89 ho (fun w7 ho => ?_)
            refine j_aload_n B eX1_race_92 0 rfl ?_
            refine gfM_16 B eX1_race_93 ?_
            exact j_iretw B hr hQ eX1_race_96 ho
          · refine j_const B eX1_race_49 ?_
            exact j_iretw B hr hQ eX1_race_51 ho
        · refine j_const B eX1_race_37 ?_
          exact j_iretw B hr hQ eX1_race_39 ho
    · refine j_const B eX1_race_16 ?_
      exact j_iretw B hr hQ eX1_race_17 ho
def sM_unrace (w : Wd)  : Option (Int32 × Wd) :=
  if (w.2.1 90 16) = 0 then (some ((-3 : Int32), w)) else (nm (stG w 90 16 ((w.2.1 90 16) - (1 : Int32))) fun w1 => some ((w1.2.1 90 16), w1))
abbrev rmX1_unrace : Room := { frames := 0, cells := 0, slots := 0, locals := 0 }
theorem pkX1_unrace : PkV yX1_unrace RX1 cX1_unrace 1 (some .int) 0 := ⟨q982, q983, q58, q984, by decide +kernel⟩
set_option maxHeartbeats 4000000 in
theorem met_X1_unrace (l : Launch) (D : va_G) (g : Nat → ClassId) (ad : Nat → Nat) (w : Wd)  (sz : Nat) (r : Int32) (w' : Wd) (ho : sM_unrace w = some (r, w')) : Met l yX1_unrace (ws_ yX1_unrace cX1_unrace 1 (some .int)) rmX1_unrace (va_Pc [.ref (ad 99)] (MPre D vwCl (tysG g) (cellsM g ad w) NT sz)) (QcI D vwCl (tysG g) (cellsM g ad w') r (va_A (cellsM g ad w) sz)) 0 0 (va_A (cellsM g ad w) sz) := by
  refine met_XJ (cw := cellsM g ad) (w := w) (cc := cX1_unrace) (lv := [(0, .ref (ad 99))]) pnX1 _ (Nat.le_of_ble_eq_true rfl) rfl ?_
  intro p e s m args below meth c R Q A B hN hr hsz hA hmm hRm hQ hAe
  unfold sM_unrace at ho
  refine j_aload_n B eX1_unrace_0 0 rfl ?_
  refine gfM_16 B eX1_unrace_1 ?_
  refine j_if_ne B eX1_unrace_4 ho (fun _ ho => ?_) (fun _ ho => ?_)
  · refine j_aload_n B eX1_unrace_10 0 rfl ?_
    refine j_dup B eX1_unrace_11 rfl ?_
    refine gfM_16 B eX1_unrace_12 ?_
    refine j_const B eX1_unrace_15 ?_
    refine j_isub B eX1_unrace_16 ?_
    refine pfM_16 B eX1_unrace_17 ho (fun w1 ho => ?_)
    refine j_aload_n B eX1_unrace_20 0 rfl ?_
    refine gfM_16 B eX1_unrace_21 ?_
    exact j_iretw B hr hQ eX1_unrace_24 ho
  · refine j_const B eX1_unrace_7 ?_
    exact j_iretw B hr hQ eX1_unrace_9 ho
def sM_findGroups_L31 (self7 : Int32 → Wd → Option (Wd)) : Int32 → Int32 → Wd → Option (Wd) :=
  fx (fun _ _ _ => none) (fun self13 x10 x11 w12 =>
    if (w12.2.1 90 16) ≤ x11 then (self7 x10 w12) else (rd (inb x11 40) (w12.2.1 12 (Int32.toNatClampNeg x11)) fun v14 => rd (inb v14 16) (w12.2.1 15 (Int32.toNatClampNeg v14)) fun v15 => nm v15 fun x16 => rd (inb x11 40) (w12.2.1 13 (Int32.toNatClampNeg x11)) fun v17 => rd (inb v17 16) (w12.2.1 15 (Int32.toNatClampNeg v17)) fun v18 => nm v18 fun x19 => if x16 = x19 then (nm (x11 + (1 : Int32)) fun x30 => self13 x10 x30 w12) else (rd (inb x11 40) (w12.2.1 12 (Int32.toNatClampNeg x11)) fun v20 => jn (fun z21 => rd (inb v20 16) (stG w12 15 (Int32.toNatClampNeg v20) z21) fun w23 => rd (inb x11 40) (w23.2.1 13 (Int32.toNatClampNeg x11)) fun v24 => jn (fun z25 => rd (inb v24 16) (stG w23 15 (Int32.toNatClampNeg v24) z25) fun w27 => nm (1 : Int32) fun x28 => nm (x11 + (1 : Int32)) fun x29 => self13 x28 x29 w27) fun J26 => if x19 ≤ x16 then (J26 x19) else (J26 x16)) fun J22 => if x19 ≤ x16 then (J22 x19) else (J22 x16)))) FU
def sM_findGroups_L23  : Int32 → Wd → Option (Wd) :=
  fx (fun _ _ => none) (fun self7 x5 w6 =>
    if x5 = 0 then (some w6) else (nm (0 : Int32) fun x8 => nm (0 : Int32) fun x9 => sM_findGroups_L31 self7 x8 x9 w6)) FU
def sM_findGroups_L2 (J3 : Wd → Option (Wd)) : Int32 → Wd → Option (Wd) :=
  fx (fun _ _ => none) (fun self33 x31 w32 =>
    if (16 : Int32) ≤ x31 then (J3 w32) else (rd (inb x31 16) (stG w32 15 (Int32.toNatClampNeg x31) x31) fun w34 => nm (x31 + (1 : Int32)) fun x35 => self33 x35 w34)) FU
def sM_findGroups (w : Wd)  : Option (Wd) :=
  nm (0 : Int32) fun x1 => jn (fun w2 => nm (1 : Int32) fun x4 => sM_findGroups_L23 x4 w2) fun J3 => sM_findGroups_L2 J3 x1 w
abbrev rmX1_findGroups : Room := { frames := 0, cells := 0, slots := 0, locals := 0 }
theorem pkX1_findGroups : PkV yX1_findGroups RX1 cX1_findGroups 5 (none) 0 := ⟨q991, qs34, q58, q992, by decide +kernel⟩
set_option maxHeartbeats 4000000 in
theorem met_X1_findGroups (l : Launch) (D : va_G) (g : Nat → ClassId) (ad : Nat → Nat) (w : Wd)  (sz : Nat) (w' : Wd) (ho : sM_findGroups w = some w') : Met l yX1_findGroups (ws_ yX1_findGroups cX1_findGroups 5 (none)) rmX1_findGroups (va_Pc [.ref (ad 99)] (MPre D vwCl (tysG g) (cellsM g ad w) NT sz)) (QcV D vwCl (tysG g) (cellsM g ad w') (va_A (cellsM g ad w) sz)) 0 0 (va_A (cellsM g ad w) sz) := by
  refine met_XJ (cw := cellsM g ad) (w := w) (cc := cX1_findGroups) (lv := [(0, .ref (ad 99))]) pnX1 _ (Nat.le_of_ble_eq_true rfl) rfl ?_
  intro p e s m args below meth c R Q A B hN hr hsz hA hmm hRm hQ hAe
  unfold sM_findGroups at ho
  refine j_const B eX1_findGroups_0 ?_
  refine j_istore_n (lv' := fun x1 => [(0, .ref (ad 99)), (1, .int x1)]) B eX1_findGroups_1 [1, 0] (by decide) (fun _ => rfl) ho (fun x1 ho => ?_)
  refine jn1 (C := fun w2 => XJ p l e R s m args below meth c 0 0 Q A D vwCl (cellsM g ad) 5 w2 21 [(0, .ref (ad 99))] []) ho (fun w2 ho => ?_) (fun J3 hJ3 ho => ?_)
  · refine j_const B eX1_findGroups_21 ?_
    refine j_istore_n (lv' := fun x4 => [(0, .ref (ad 99)), (1, .int x4)]) B eX1_findGroups_22 [1, 0] (by decide) (fun _ => rfl) ho (fun x4 ho => ?_)
    unfold sM_findGroups_L23 at ho
    refine fx2 (C := fun x5 w6 => XJ p l e R s m args below meth c 0 0 Q A D vwCl (cellsM g ad) 5 w6 23 [(0, .ref (ad 99)), (1, .int x5)] []) (fun self7 hself7 x5 w6 ho => ?_) FU _ _ ho
    refine j_iload_n B eX1_findGroups_23 1 rfl ?_
    refine j_if_eq B eX1_findGroups_24 ho (fun _ ho => ?_) (fun _ ho => ?_)
    · exact j_vretw B hr hQ eX1_findGroups_130 ho
    · refine j_const B eX1_findGroups_27 ?_
      refine j_istore_n (lv' := fun x8 => [(0, .ref (ad 99)), (1, .int x8)]) B eX1_findGroups_28 [1, 0] (by decide) (fun _ => rfl) ho (fun x8 ho => ?_)
      refine j_const B eX1_findGroups_29 ?_
      refine j_istore_n (lv' := fun x9 => [(0, .ref (ad 99)), (1, .int x8), (2, .int x9)]) B eX1_findGroups_30 [1, 2, 0] (by decide) (fun _ => rfl) ho (fun x9 ho => ?_)
      unfold sM_findGroups_L31 at ho
      refine fx3 (C := fun x10 x11 w12 => XJ p l e R s m args below meth c 0 0 Q A D vwCl (cellsM g ad) 5 w12 31 [(0, .ref (ad 99)), (1, .int x10), (2, .int x11)] []) (fun self13 hself13 x10 x11 w12 ho => ?_) FU _ _ _ ho
      refine j_iload_n B eX1_findGroups_31 2 rfl ?_
      refine j_aload_n B eX1_findGroups_32 0 rfl ?_
      refine gfM_16 B eX1_findGroups_33 ?_
      refine j_icmp_ge B eX1_findGroups_36 ho (fun _ ho => ?_) (fun _ ho => ?_)
      · refine j_goto B eX1_findGroups_127 ?_
        refine j_lsub (lv' := [(0, .ref (ad 99)), (1, .int x10)]) [0, 1] rfl ?_
        exact hself7 _ _ ho
      · refine j_aload_n B eX1_findGroups_39 0 rfl ?_
        refine gfM_15 B eX1_findGroups_40 ?_
        refine j_aload_n B eX1_findGroups_43 0 rfl ?_
        refine gfM_12 B eX1_findGroups_44 ?_
        refine j_iload_n B eX1_findGroups_47 2 rfl ?_
        refine ldM_12 B eX1_findGroups_48 ho (fun v14 ho => ?_)
        refine ldM_15 B eX1_findGroups_49 ho (fun v15 ho => ?_)
        refine j_istore_n (lv' := fun x16 => [(0, .ref (ad 99)), (1, .int x10), (2, .int x11), (3, .int x16)]) B eX1_findGroups_50 [1, 2, 3, 0] (by decide) (fun _ => rfl) ho (fun x16 ho => ?_)
        refine j_aload_n B eX1_findGroups_51 0 rfl ?_
        refine gfM_15 B eX1_findGroups_52 ?_
        refine j_aload_n B eX1_findGroups_55 0 rfl ?_
        refine gfM_13 B eX1_findGroups_56 ?_
        refine j_iload_n B eX1_findGroups_59 2 rfl ?_
        refine ldM_13 B eX1_findGroups_60 ho (fun v17 ho => ?_)
        refine ldM_15 B eX1_findGroups_61 ho (fun v18 ho => ?_)
        refine j_istore (lv' := fun x19 => [(0, .ref (ad 99)), (1, .int x10), (2, .int x11), (3, .int x16), (4, .int x19)]) B eX1_findGroups_62 [1, 2, 3, 4, 0] (by decide) (fun _ => rfl) ho (fun x19 ho => ?_)
        refine j_iload_n B eX1_findGroups_64 3 rfl ?_
        refine j_iload B eX1_findGroups_65 4 rfl ?_
        refine j_icmp_ne B eX1_findGroups_67 ho (fun _ ho => ?_) (fun _ ho => ?_)
        · refine j_aload_n B eX1_findGroups_73 0 rfl ?_
          refine gfM_15 B eX1_findGroups_74 ?_
          refine j_aload_n B eX1_findGroups_77 0 rfl ?_
          refine gfM_12 B eX1_findGroups_78 ?_
          refine j_iload_n B eX1_findGroups_81 2 rfl ?_
          refine ldM_12 B eX1_findGroups_82 ho (fun v20 ho => ?_)
          refine j_iload_n B eX1_findGroups_83 3 rfl ?_
          refine j_iload B eX1_findGroups_84 4 rfl ?_
          refine jn1 (C := fun z21 => XJ p l e R s m args below meth c 0 0 Q A D vwCl (cellsM g ad) 5 w12 95 [(0, .ref (ad 99)), (2, .int x11), (3, .int x16), (4, .int x19)] [.int z21, .int v20, .ref (ad 15)]) ho (fun z21 ho => ?_) (fun J22 hJ22 ho => ?_)
          · refine stM_15 B eX1_findGroups_95 ho (fun w23 ho => ?_)
            refine j_aload_n B eX1_findGroups_96 0 rfl ?_
            refine gfM_15 B eX1_findGroups_97 ?_
            refine j_aload_n B eX1_findGroups_100 0 rfl ?_
            refine gfM_13 B eX1_findGroups_101 ?_
            refine j_iload_n B eX1_findGroups_104 1 rfl ?_
            refine ldM_13 B eX1_findGroups_105 ho (fun v24 ho => ?_)
            refine j_iload_n B eX1_findGroups_106 2 rfl ?_
            refine j_iload B eX1_findGroups_107 3 rfl ?_
            refine jn1 (C := fun z25 => XJ p l e R s m args below meth c 0 0 Q A D vwCl (cellsM g ad) 5 w23 118 [(0, .ref (ad 99)), (2, .int x11)] [.int z25, .int v24, .ref (ad 15)]) ho (fun z25 ho => ?_) (fun J26 hJ26 ho => ?_)
            · refine stM_15 B eX1_findGroups_118 ho (fun w27 ho => ?_)
              refine j_const B eX1_findGroups_119 ?_
              refine j_istore_n (lv' := fun x28 => [(0, .ref (ad 99)), (1, .int x28), (2, .int x11)]) B eX1_findGroups_120 [1, 0, 2] (by decide) (fun _ => rfl) ho (fun x28 ho => ?_)
              refine j_iinc (d := 1) (lv' := fun x29 => [(0, .ref (ad 99)), (1, .int x28), (2, .int x29)]) B eX1_findGroups_121 2 rfl (by decide) [1, 2, 0] (by decide) (fun _ => rfl) ho (fun x29 ho => ?_)
              refine j_goto B eX1_findGroups_124 ?_
              exact hself13 _ _ _ ho
            · refine j_icmp_ge B eX1_findGroups_109 ho (fun _ ho => ?_) (fun _ ho => ?_)
              · refine j_iload B eX1_findGroups_116 3 rfl ?_
                refine j_lsub (lv' := [(0, .ref (ad 99)), (2, .int x11)]) [0, 1] rfl ?_
                exact hJ26 _ ho
              · refine j_iload_n B eX1_findGroups_112 2 rfl ?_
                refine j_goto B eX1_findGroups_113 ?_
                refine j_lsub (lv' := [(0, .ref (ad 99)), (2, .int x11)]) [0, 1] rfl ?_
                exact hJ26 _ ho
          · refine j_icmp_ge B eX1_findGroups_86 ho (fun _ ho => ?_) (fun _ ho => ?_)
            · refine j_iload B eX1_findGroups_93 4 rfl ?_
              refine j_lsub (lv' := [(0, .ref (ad 99)), (2, .int x11), (3, .int x16), (4, .int x19)]) [0, 2, 3, 4] rfl ?_
              exact hJ22 _ ho
            · refine j_iload_n B eX1_findGroups_89 3 rfl ?_
              refine j_goto B eX1_findGroups_90 ?_
              refine j_lsub (lv' := [(0, .ref (ad 99)), (2, .int x11), (3, .int x16), (4, .int x19)]) [0, 2, 3, 4] rfl ?_
              exact hJ22 _ ho
        · refine j_goto B eX1_findGroups_70 ?_
          refine j_iinc (d := 1) (lv' := fun x30 => [(0, .ref (ad 99)), (1, .int x10), (2, .int x30)]) B eX1_findGroups_121 2 rfl (by decide) [1, 2, 0] (by decide) (fun _ => rfl) ho (fun x30 ho => ?_)
          refine j_goto B eX1_findGroups_124 ?_
          exact hself13 _ _ _ ho
  · unfold sM_findGroups_L2 at ho
    refine fx2 (C := fun x31 w32 => XJ p l e R s m args below meth c 0 0 Q A D vwCl (cellsM g ad) 5 w32 2 [(0, .ref (ad 99)), (1, .int x31)] []) (fun self33 hself33 x31 w32 ho => ?_) FU _ _ ho
    refine j_iload_n B eX1_findGroups_2 1 rfl ?_
    refine j_const B eX1_findGroups_3 ?_
    refine j_icmp_ge B eX1_findGroups_5 ho (fun _ ho => ?_) (fun _ ho => ?_)
    · refine j_lsub (lv' := [(0, .ref (ad 99))]) [0] rfl ?_
      exact hJ3 _ ho
    · refine j_aload_n B eX1_findGroups_8 0 rfl ?_
      refine gfM_15 B eX1_findGroups_9 ?_
      refine j_iload_n B eX1_findGroups_12 1 rfl ?_
      refine j_iload_n B eX1_findGroups_13 1 rfl ?_
      refine stM_15 B eX1_findGroups_14 ho (fun w34 ho => ?_)
      refine j_iinc (d := 1) (lv' := fun x35 => [(0, .ref (ad 99)), (1, .int x35)]) B eX1_findGroups_15 1 rfl (by decide) [1, 0] (by decide) (fun _ => rfl) ho (fun x35 ho => ?_)
      refine j_goto B eX1_findGroups_18 ?_
      exact hself33 _ _ ho
def sM_group (w : Wd) (a1 : Int32) : Option (Int32 × Wd) :=
  bd (sM_isOar w a1) fun v1 => if v1 = 0 then (some ((-1 : Int32), w)) else (bd (sM_findGroups w) fun w2 => rd (inb a1 16) (w2.2.1 15 (Int32.toNatClampNeg a1)) fun v3 => some (v3, w2))
abbrev rmX1_group : Room := { frames := 1, cells := 0, slots := 0, locals := 24 }
theorem pkX1_group : PkV yX1_group RX1 cX1_group 2 (some .int) 1 := ⟨q986, q987, q58, q988, by decide +kernel⟩
set_option maxHeartbeats 4000000 in
theorem met_X1_group (l : Launch) (D : va_G) (g : Nat → ClassId) (ad : Nat → Nat) (w : Wd) (a1 : Int32) (sz : Nat) (r : Int32) (w' : Wd) (ho : sM_group w a1 = some (r, w')) : Met l yX1_group (ws_ yX1_group cX1_group 2 (some .int)) rmX1_group (va_Pc [.ref (ad 99), .int a1] (MPre D vwCl (tysG g) (cellsM g ad w) NT sz)) (QcI D vwCl (tysG g) (cellsM g ad w') r (va_A (cellsM g ad w) sz)) 0 0 (va_A (cellsM g ad w) sz) := by
  refine met_XJ (cw := cellsM g ad) (w := w) (cc := cX1_group) (lv := [(0, .ref (ad 99)), (1, .int a1)]) pnX1 _ (Nat.le_of_ble_eq_true rfl) rfl ?_
  intro p e s m args below meth c R Q A B hN hr hsz hA hmm hRm hQ hAe
  unfold sM_group at ho
  refine j_aload_n B eX1_group_0 0 rfl ?_
  refine j_iload_n B eX1_group_1 1 rfl ?_
  refine j_callVi (As := [.int a1]) B hA (met_X1_isOar l D g ad w a1) NT_ok pkX1_isOar q939 0 rfl rfl rfl rfl hRm ⟨Nat.le_of_ble_eq_true rfl, Nat.le_of_ble_eq_true rfl⟩ rfl rfl (Nat.le_of_ble_eq_true rfl) ⟨Nat.zero_le _, Nat.zero_le _⟩ eX1_group_2 ho (fun v1 ho => ?_)
  refine j_if_ne B eX1_group_5 ho (fun _ ho => ?_) (fun _ ho => ?_)
  · refine j_aload_n B eX1_group_10 0 rfl ?_
    refine j_callVvw (As := []) B hA (met_X1_findGroups l D g ad w) NT_ok pkX1_findGroups q989 0 rfl rfl rfl rfl hRm ⟨Nat.le_of_ble_eq_true rfl, Nat.le_of_ble_eq_true rfl⟩ rfl rfl (Nat.le_of_ble_eq_true rfl) ⟨Nat.zero_le _, Nat.zero_le _⟩ eX1_group_11 ho (fun w2 ho => ?_)
    refine j_aload_n B eX1_group_14 0 rfl ?_
    refine gfM_15 B eX1_group_15 ?_
    refine j_iload_n B eX1_group_18 1 rfl ?_
    refine ldM_15 B eX1_group_19 ho (fun v3 ho => ?_)
    exact j_iretw B hr hQ eX1_group_20 ho
  · refine j_const B eX1_group_8 ?_
    exact j_iretw B hr hQ eX1_group_9 ho
def sM_tells (w : Wd) (a1 : Int32) (a2 : Int32) (a3 : Int32) : Option (Wd) :=
  if 0 ≤ a1 then (rd (inb (((7 : Int32) * a1) + a1) 49) (w.2.2 18 (Int32.toNatClampNeg (((7 : Int32) * a1) + a1))) fun v1 => rd (inb (((7 : Int32) * a1) + a1) 49) (stL w 18 (Int32.toNatClampNeg (((7 : Int32) * a1) + a1)) (v1 + (1 : Int64))) fun w2 => jn (fun w3 => rd (inb a1 7) (w3.2.2 19 (Int32.toNatClampNeg a1)) fun v5 => rd (inb a1 7) (stL w3 19 (Int32.toNatClampNeg a1) (v5 + (Int32.toInt64 a3))) fun w6 => some w6) fun J4 => if a2 < 0 then (J4 w2) else (rd (inb (((7 : Int32) * a1) + a2) 49) (w2.2.2 18 (Int32.toNatClampNeg (((7 : Int32) * a1) + a2))) fun v7 => rd (inb (((7 : Int32) * a1) + a2) 49) (stL w2 18 (Int32.toNatClampNeg (((7 : Int32) * a1) + a2)) (v7 - (1 : Int64))) fun w8 => J4 w8)) else (some w)
abbrev rmX1_tells : Room := { frames := 0, cells := 0, slots := 0, locals := 0 }
theorem pkX1_tells : PkV yX1_tells RX1 cX1_tells 4 (none) 3 := ⟨q1003, qs36, q58, q1004, by decide +kernel⟩
set_option maxHeartbeats 4000000 in
theorem met_X1_tells (l : Launch) (D : va_G) (g : Nat → ClassId) (ad : Nat → Nat) (w : Wd) (a1 : Int32) (a2 : Int32) (a3 : Int32) (sz : Nat) (w' : Wd) (ho : sM_tells w a1 a2 a3 = some w') : Met l yX1_tells (ws_ yX1_tells cX1_tells 4 (none)) rmX1_tells (va_Pc [.ref (ad 99), .int a1, .int a2, .int a3] (MPre D vwCl (tysG g) (cellsM g ad w) NT sz)) (QcV D vwCl (tysG g) (cellsM g ad w') (va_A (cellsM g ad w) sz)) 0 0 (va_A (cellsM g ad w) sz) := by
  refine met_XJ (cw := cellsM g ad) (w := w) (cc := cX1_tells) (lv := [(0, .ref (ad 99)), (1, .int a1), (2, .int a2), (3, .int a3)]) pnX1 _ (Nat.le_of_ble_eq_true rfl) rfl ?_
  intro p e s m args below meth c R Q A B hN hr hsz hA hmm hRm hQ hAe
  unfold sM_tells at ho
  refine j_iload_n B eX1_tells_0 1 rfl ?_
  refine j_if_ge B eX1_tells_1 ho (fun _ ho => ?_) (fun _ ho => ?_)
  · refine j_aload_n B eX1_tells_5 0 rfl ?_
    refine gfM_18 B eX1_tells_6 ?_
    refine j_const B eX1_tells_9 ?_
    refine j_iload_n B eX1_tells_11 1 rfl ?_
    refine j_imul B eX1_tells_12 ?_
    refine j_iload_n B eX1_tells_13 1 rfl ?_
    refine j_iadd B eX1_tells_14 ?_
    refine j_dup2 B eX1_tells_15 rfl rfl ?_
    refine ldM_18 B eX1_tells_16 ho (fun v1 ho => ?_)
    refine j_lconst (v := 1) B eX1_tells_17 rfl ?_
    refine j_ladd B eX1_tells_18 ?_
    refine stM_18 B eX1_tells_19 ho (fun w2 ho => ?_)
    refine j_iload_n B eX1_tells_20 2 rfl ?_
    refine jn1 (C := fun w3 => XJ p l e R s m args below meth c 0 0 Q A D vwCl (cellsM g ad) 4 w3 39 [(0, .ref (ad 99)), (1, .int a1), (3, .int a3)] []) ho (fun w3 ho => ?_) (fun J4 hJ4 ho => ?_)
    · refine j_aload_n B eX1_tells_39 0 rfl ?_
      refine gfM_19 B eX1_tells_40 ?_
      refine j_iload_n B eX1_tells_43 1 rfl ?_
      refine j_dup2 B eX1_tells_44 rfl rfl ?_
      refine ldM_19 B eX1_tells_45 ho (fun v5 ho => ?_)
      refine j_iload_n B eX1_tells_46 2 rfl ?_
      refine j_i2l B eX1_tells_47 ?_
      refine j_ladd B eX1_tells_48 ?_
      refine stM_19 B eX1_tells_49 ho (fun w6 ho => ?_)
      exact j_vretw B hr hQ eX1_tells_50 ho
    · refine j_if_lt B eX1_tells_21 ho (fun _ ho => ?_) (fun _ ho => ?_)
      · refine j_lsub (lv' := [(0, .ref (ad 99)), (1, .int a1), (3, .int a3)]) [0, 1, 3] rfl ?_
        exact hJ4 _ ho
      · refine j_aload_n B eX1_tells_24 0 rfl ?_
        refine gfM_18 B eX1_tells_25 ?_
        refine j_const B eX1_tells_28 ?_
        refine j_iload_n B eX1_tells_30 1 rfl ?_
        refine j_imul B eX1_tells_31 ?_
        refine j_iload_n B eX1_tells_32 2 rfl ?_
        refine j_iadd B eX1_tells_33 ?_
        refine j_dup2 B eX1_tells_34 rfl rfl ?_
        refine ldM_18 B eX1_tells_35 ho (fun v7 ho => ?_)
        refine j_lconst (v := 1) B eX1_tells_36 rfl ?_
        refine j_lsubt B eX1_tells_37 ?_
        refine stM_18 B eX1_tells_38 ho (fun w8 ho => ?_)
        refine j_lsub (lv' := [(0, .ref (ad 99)), (1, .int a1), (3, .int a3)]) [0, 1, 3] rfl ?_
        exact hJ4 _ ho
  · exact j_vretw B hr hQ eX1_tells_4 ho
def sM_bits_L4 (a1 : Int32) : Int32 → Int32 → Option (Int32) :=
  fx (fun _ _ => none) (fun self5 x3 x4 =>
    if (16 : Int32) ≤ x4 then (some x3) else (nm (x3 + ((a1 >>> (x4 &&& 31)) &&& (1 : Int32))) fun x6 => nm (x4 + (1 : Int32)) fun x7 => self5 x6 x7)) FU
def sM_bits (a1 : Int32) : Option (Int32) :=
  nm (0 : Int32) fun x1 => nm (0 : Int32) fun x2 => sM_bits_L4 a1 x1 x2
abbrev rmX1_bits : Room := { frames := 0, cells := 0, slots := 0, locals := 0 }
theorem pkX1_bits : PkS yX1_bits cX1_bits 3 (some .int) 1 := ⟨q1010, q58, q1011, by decide +kernel⟩
set_option maxHeartbeats 4000000 in
theorem met_X1_bits (l : Launch) (D : va_G) (tys : List (ClassId × FieldType)) (ws : va_W) (NX : Nat → State → Prop) (a1 : Int32) (sz : Nat) (r : Int32) (ho : sM_bits a1 = some r) : Met l yX1_bits (ws_ yX1_bits cX1_bits 3 (some .int)) rmX1_bits (va_Pc [.int a1] (MPre D vwCl tys ws NX sz)) (QcI D vwCl tys ws r (va_A ws sz)) 0 0 (va_A ws sz) := by
  refine met_XJ (cw := fun (_ : Unit) => ws) (w := ()) (cc := cX1_bits) (lv := [(0, .int a1)]) pnX1 _ (Nat.le_of_ble_eq_true rfl) rfl ?_
  intro p e s m args below meth c R Q A B hN hr hsz hA hmm hRm hQ hAe
  unfold sM_bits at ho
  refine j_const B eX1_bits_0 ?_
  refine j_istore_n (lv' := fun x1 => [(0, .int a1), (1, .int x1)]) B eX1_bits_1 [1, 0] (by decide) (fun _ => rfl) ho (fun x1 ho => ?_)
  refine j_const B eX1_bits_2 ?_
  refine j_istore_n (lv' := fun x2 => [(0, .int a1), (1, .int x1), (2, .int x2)]) B eX1_bits_3 [1, 2, 0] (by decide) (fun _ => rfl) ho (fun x2 ho => ?_)
  unfold sM_bits_L4 at ho
  refine fx2 (C := fun x3 x4 => XJ p l e R s m args below meth c 0 0 Q A D vwCl (fun (_ : Unit) => ws) 3 () 4 [(0, .int a1), (1, .int x3), (2, .int x4)] []) (fun self5 hself5 x3 x4 ho => ?_) FU _ _ ho
  refine j_iload_n B eX1_bits_4 2 rfl ?_
  refine j_const B eX1_bits_5 ?_
  refine j_icmp_ge B eX1_bits_7 ho (fun _ ho => ?_) (fun _ ho => ?_)
  · refine j_iload_n B eX1_bits_24 1 rfl ?_
    exact j_iret B hr hQ eX1_bits_25 ho
  · refine j_iload_n B eX1_bits_10 1 rfl ?_
    refine j_iload_n B eX1_bits_11 0 rfl ?_
    refine j_iload_n B eX1_bits_12 2 rfl ?_
    refine j_ishr B eX1_bits_13 ?_
    refine j_const B eX1_bits_14 ?_
    refine j_iand B eX1_bits_15 ?_
    refine j_iadd B eX1_bits_16 ?_
    refine j_istore_n (lv' := fun x6 => [(0, .int a1), (1, .int x6), (2, .int x4)]) B eX1_bits_17 [1, 0, 2] (by decide) (fun _ => rfl) ho (fun x6 ho => ?_)
    refine j_iinc (d := 1) (lv' := fun x7 => [(0, .int a1), (1, .int x6), (2, .int x7)]) B eX1_bits_18 2 rfl (by decide) [1, 2, 0] (by decide) (fun _ => rfl) ho (fun x7 ho => ?_)
    refine j_goto B eX1_bits_21 ?_
    exact hself5 _ _ ho
