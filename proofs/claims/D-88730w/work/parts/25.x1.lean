set_option maxRecDepth 100000
theorem eX0_strengthOf_0 : D1 cX0_strengthOf 0 (.aload_n 0) 1 := ⟨by decide +kernel, rfl⟩
theorem eX0_strengthOf_1 : D3 cX0_strengthOf 1 (.getfield 36) 4 := ⟨by decide +kernel, rfl⟩
theorem eX0_strengthOf_4 : D1 cX0_strengthOf 4 (.iload_n 1) 5 := ⟨by decide +kernel, rfl⟩
theorem eX0_strengthOf_5 : D1 cX0_strengthOf 5 (.iaload) 6 := ⟨by decide +kernel, rfl⟩
theorem eX0_strengthOf_6 : DC cX0_strengthOf 6 (-1) 7 := Or.inl ⟨-1, ⟨by decide +kernel, rfl⟩, by decide⟩
theorem eX0_strengthOf_7 : DJ cX0_strengthOf 7 (.if_icmp .ne) 14 10 := ⟨7, by decide +kernel, by decide, rfl⟩
theorem eX0_strengthOf_10 : D1 cX0_strengthOf 10 (.lconst 0) 11 := ⟨by decide +kernel, rfl⟩
theorem eX0_strengthOf_11 : DJ cX0_strengthOf 11 .goto 32 14 := ⟨21, by decide +kernel, by decide, rfl⟩
theorem eX0_strengthOf_14 : D1 cX0_strengthOf 14 (.aload_n 0) 15 := ⟨by decide +kernel, rfl⟩
theorem eX0_strengthOf_15 : D3 cX0_strengthOf 15 (.getfield 39) 18 := ⟨by decide +kernel, rfl⟩
theorem eX0_strengthOf_18 : D1 cX0_strengthOf 18 (.aload_n 0) 19 := ⟨by decide +kernel, rfl⟩
theorem eX0_strengthOf_19 : D3 cX0_strengthOf 19 (.getfield 36) 22 := ⟨by decide +kernel, rfl⟩
theorem eX0_strengthOf_22 : D1 cX0_strengthOf 22 (.iload_n 1) 23 := ⟨by decide +kernel, rfl⟩
theorem eX0_strengthOf_23 : D1 cX0_strengthOf 23 (.iaload) 24 := ⟨by decide +kernel, rfl⟩
theorem eX0_strengthOf_24 : D1 cX0_strengthOf 24 (.aload_n 0) 25 := ⟨by decide +kernel, rfl⟩
theorem eX0_strengthOf_25 : D3 cX0_strengthOf 25 (.getfield 219) 28 := ⟨by decide +kernel, rfl⟩
theorem eX0_strengthOf_28 : D3 cX0_strengthOf 28 (.invokestatic 225) 31 := ⟨by decide +kernel, rfl⟩
theorem eX0_strengthOf_31 : D1 cX0_strengthOf 31 (.laload) 32 := ⟨by decide +kernel, rfl⟩
theorem eX0_strengthOf_32 : D1 cX0_strengthOf 32 (.lreturn) 33 := ⟨by decide +kernel, rfl⟩
theorem eX0_strength_0 : D1 cX0_strength 0 (.aload_n 0) 1 := ⟨by decide +kernel, rfl⟩
theorem eX0_strength_1 : D1 cX0_strength 1 (.iload_n 1) 2 := ⟨by decide +kernel, rfl⟩
theorem eX0_strength_2 : D3 cX0_strength 2 (.invokevirtual 153) 5 := ⟨by decide +kernel, rfl⟩
theorem eX0_strength_5 : DJ cX0_strength 5 (.ifCond .eq) 18 8 := ⟨13, by decide +kernel, by decide, rfl⟩
theorem eX0_strength_8 : D1 cX0_strength 8 (.iload_n 2) 9 := ⟨by decide +kernel, rfl⟩
theorem eX0_strength_9 : D1 cX0_strength 9 (.i2l) 10 := ⟨by decide +kernel, rfl⟩
theorem eX0_strength_10 : D1 cX0_strength 10 (.lconst 0) 11 := ⟨by decide +kernel, rfl⟩
theorem eX0_strength_11 : D1 cX0_strength 11 (.lconst 1) 12 := ⟨by decide +kernel, rfl⟩
theorem eX0_strength_12 : D3 cX0_strength 12 (.invokestatic 103) 15 := ⟨by decide +kernel, rfl⟩
theorem eX0_strength_15 : DJ cX0_strength 15 (.ifCond .ne) 22 18 := ⟨7, by decide +kernel, by decide, rfl⟩
theorem eX0_strength_18 : D3 cX0_strength 18 (.ldc2_w 240) 21 := ⟨by decide +kernel, rfl⟩
theorem eX0_strength_21 : D1 cX0_strength 21 (.lreturn) 22 := ⟨by decide +kernel, rfl⟩
theorem eX0_strength_22 : D1 cX0_strength 22 (.aload_n 0) 23 := ⟨by decide +kernel, rfl⟩
theorem eX0_strength_23 : D3 cX0_strength 23 (.invokevirtual 216) 26 := ⟨by decide +kernel, rfl⟩
theorem eX0_strength_26 : D1 cX0_strength 26 (.aload_n 0) 27 := ⟨by decide +kernel, rfl⟩
theorem eX0_strength_27 : D1 cX0_strength 27 (.aload_n 0) 28 := ⟨by decide +kernel, rfl⟩
theorem eX0_strength_28 : D3 cX0_strength 28 (.getfield 33) 31 := ⟨by decide +kernel, rfl⟩
theorem eX0_strength_31 : D1 cX0_strength 31 (.iload_n 1) 32 := ⟨by decide +kernel, rfl⟩
theorem eX0_strength_32 : D1 cX0_strength 32 (.iaload) 33 := ⟨by decide +kernel, rfl⟩
theorem eX0_strength_33 : D3 cX0_strength 33 (.invokevirtual 242) 36 := ⟨by decide +kernel, rfl⟩
theorem eX0_strength_36 : DJ cX0_strength 36 (.ifCond .eq) 43 39 := ⟨7, by decide +kernel, by decide, rfl⟩
theorem eX0_strength_39 : D3 cX0_strength 39 (.ldc2_w 240) 42 := ⟨by decide +kernel, rfl⟩
theorem eX0_strength_42 : D1 cX0_strength 42 (.lreturn) 43 := ⟨by decide +kernel, rfl⟩
theorem eX0_strength_43 : D1 cX0_strength 43 (.aload_n 0) 44 := ⟨by decide +kernel, rfl⟩
theorem eX0_strength_44 : D1 cX0_strength 44 (.aload_n 0) 45 := ⟨by decide +kernel, rfl⟩
theorem eX0_strength_45 : D3 cX0_strength 45 (.getfield 33) 48 := ⟨by decide +kernel, rfl⟩
theorem eX0_strength_48 : D1 cX0_strength 48 (.iload_n 1) 49 := ⟨by decide +kernel, rfl⟩
theorem eX0_strength_49 : D1 cX0_strength 49 (.iaload) 50 := ⟨by decide +kernel, rfl⟩
theorem eX0_strength_50 : D3 cX0_strength 50 (.invokevirtual 245) 53 := ⟨by decide +kernel, rfl⟩
theorem eX0_strength_53 : D1 cX0_strength 53 (.aload_n 0) 54 := ⟨by decide +kernel, rfl⟩
theorem eX0_strength_54 : D3 cX0_strength 54 (.invokevirtual 248) 57 := ⟨by decide +kernel, rfl⟩
theorem eX0_strength_57 : D1 cX0_strength 57 (.aload_n 0) 58 := ⟨by decide +kernel, rfl⟩
theorem eX0_strength_58 : D1 cX0_strength 58 (.iload_n 1) 59 := ⟨by decide +kernel, rfl⟩
theorem eX0_strength_59 : D3 cX0_strength 59 (.invokevirtual 251) 62 := ⟨by decide +kernel, rfl⟩
theorem eX0_strength_62 : D1 cX0_strength 62 (.aload_n 0) 63 := ⟨by decide +kernel, rfl⟩
theorem eX0_strength_63 : D3 cX0_strength 63 (.getfield 228) 66 := ⟨by decide +kernel, rfl⟩
theorem eX0_strength_66 : D1 cX0_strength 66 (.iload_n 2) 67 := ⟨by decide +kernel, rfl⟩
theorem eX0_strength_67 : D3 cX0_strength 67 (.invokestatic 255) 70 := ⟨by decide +kernel, rfl⟩
theorem eX0_strength_70 : D1 cX0_strength 70 (.lreturn) 71 := ⟨by decide +kernel, rfl⟩
theorem eX0_between_0 : D1 cX0_between 0 (.aload_n 0) 1 := ⟨by decide +kernel, rfl⟩
theorem eX0_between_1 : D1 cX0_between 1 (.iload_n 1) 2 := ⟨by decide +kernel, rfl⟩
theorem eX0_between_2 : D3 cX0_between 2 (.invokevirtual 153) 5 := ⟨by decide +kernel, rfl⟩
theorem eX0_between_5 : DJ cX0_between 5 (.ifCond .eq) 26 8 := ⟨21, by decide +kernel, by decide, rfl⟩
theorem eX0_between_8 : D1 cX0_between 8 (.aload_n 0) 9 := ⟨by decide +kernel, rfl⟩
theorem eX0_between_9 : D1 cX0_between 9 (.iload_n 2) 10 := ⟨by decide +kernel, rfl⟩
theorem eX0_between_10 : D3 cX0_between 10 (.invokevirtual 153) 13 := ⟨by decide +kernel, rfl⟩
theorem eX0_between_13 : DJ cX0_between 13 (.ifCond .eq) 26 16 := ⟨13, by decide +kernel, by decide, rfl⟩
theorem eX0_between_16 : D1 cX0_between 16 (.iload_n 3) 17 := ⟨by decide +kernel, rfl⟩
theorem eX0_between_17 : D1 cX0_between 17 (.i2l) 18 := ⟨by decide +kernel, rfl⟩
theorem eX0_between_18 : D1 cX0_between 18 (.lconst 0) 19 := ⟨by decide +kernel, rfl⟩
theorem eX0_between_19 : D1 cX0_between 19 (.lconst 1) 20 := ⟨by decide +kernel, rfl⟩
theorem eX0_between_20 : D3 cX0_between 20 (.invokestatic 103) 23 := ⟨by decide +kernel, rfl⟩
theorem eX0_between_23 : DJ cX0_between 23 (.ifCond .ne) 30 26 := ⟨7, by decide +kernel, by decide, rfl⟩
theorem eX0_between_26 : D3 cX0_between 26 (.ldc2_w 240) 29 := ⟨by decide +kernel, rfl⟩
theorem eX0_between_29 : D1 cX0_between 29 (.lreturn) 30 := ⟨by decide +kernel, rfl⟩
theorem eX0_between_30 : D1 cX0_between 30 (.aload_n 0) 31 := ⟨by decide +kernel, rfl⟩
theorem eX0_between_31 : D3 cX0_between 31 (.invokevirtual 216) 34 := ⟨by decide +kernel, rfl⟩
theorem eX0_between_34 : D1 cX0_between 34 (.aload_n 0) 35 := ⟨by decide +kernel, rfl⟩
theorem eX0_between_35 : D3 cX0_between 35 (.getfield 33) 38 := ⟨by decide +kernel, rfl⟩
theorem eX0_between_38 : D1 cX0_between 38 (.iload_n 1) 39 := ⟨by decide +kernel, rfl⟩
theorem eX0_between_39 : D1 cX0_between 39 (.iaload) 40 := ⟨by decide +kernel, rfl⟩
theorem eX0_between_40 : D1 cX0_between 40 (.aload_n 0) 41 := ⟨by decide +kernel, rfl⟩
theorem eX0_between_41 : D3 cX0_between 41 (.getfield 33) 44 := ⟨by decide +kernel, rfl⟩
theorem eX0_between_44 : D1 cX0_between 44 (.iload_n 2) 45 := ⟨by decide +kernel, rfl⟩
theorem eX0_between_45 : D1 cX0_between 45 (.iaload) 46 := ⟨by decide +kernel, rfl⟩
theorem eX0_between_46 : DJ cX0_between 46 (.if_icmp .ne) 62 49 := ⟨16, by decide +kernel, by decide, rfl⟩
theorem eX0_between_49 : D1 cX0_between 49 (.aload_n 0) 50 := ⟨by decide +kernel, rfl⟩
theorem eX0_between_50 : D1 cX0_between 50 (.aload_n 0) 51 := ⟨by decide +kernel, rfl⟩
theorem eX0_between_51 : D3 cX0_between 51 (.getfield 33) 54 := ⟨by decide +kernel, rfl⟩
theorem eX0_between_54 : D1 cX0_between 54 (.iload_n 1) 55 := ⟨by decide +kernel, rfl⟩
theorem eX0_between_55 : D1 cX0_between 55 (.iaload) 56 := ⟨by decide +kernel, rfl⟩
theorem eX0_between_56 : D3 cX0_between 56 (.invokevirtual 242) 59 := ⟨by decide +kernel, rfl⟩
theorem eX0_between_59 : DJ cX0_between 59 (.ifCond .eq) 66 62 := ⟨7, by decide +kernel, by decide, rfl⟩
theorem eX0_between_62 : D3 cX0_between 62 (.ldc2_w 240) 65 := ⟨by decide +kernel, rfl⟩
theorem eX0_between_65 : D1 cX0_between 65 (.lreturn) 66 := ⟨by decide +kernel, rfl⟩
theorem eX0_between_66 : D1 cX0_between 66 (.aload_n 0) 67 := ⟨by decide +kernel, rfl⟩
theorem eX0_between_67 : D1 cX0_between 67 (.aload_n 0) 68 := ⟨by decide +kernel, rfl⟩
theorem eX0_between_68 : D3 cX0_between 68 (.getfield 33) 71 := ⟨by decide +kernel, rfl⟩
theorem eX0_between_71 : D1 cX0_between 71 (.iload_n 1) 72 := ⟨by decide +kernel, rfl⟩
theorem eX0_between_72 : D1 cX0_between 72 (.iaload) 73 := ⟨by decide +kernel, rfl⟩
theorem eX0_between_73 : D3 cX0_between 73 (.invokevirtual 245) 76 := ⟨by decide +kernel, rfl⟩
theorem eX0_between_76 : D1 cX0_between 76 (.aload_n 0) 77 := ⟨by decide +kernel, rfl⟩
theorem eX0_between_77 : D3 cX0_between 77 (.invokevirtual 248) 80 := ⟨by decide +kernel, rfl⟩
theorem eX0_between_80 : D1 cX0_between 80 (.aload_n 0) 81 := ⟨by decide +kernel, rfl⟩
theorem eX0_between_81 : D1 cX0_between 81 (.iload_n 1) 82 := ⟨by decide +kernel, rfl⟩
theorem eX0_between_82 : D3 cX0_between 82 (.invokevirtual 251) 85 := ⟨by decide +kernel, rfl⟩
theorem eX0_between_85 : D1 cX0_between 85 (.aload_n 0) 86 := ⟨by decide +kernel, rfl⟩
theorem eX0_between_86 : D1 cX0_between 86 (.iload_n 2) 87 := ⟨by decide +kernel, rfl⟩
theorem eX0_between_87 : D3 cX0_between 87 (.invokevirtual 251) 90 := ⟨by decide +kernel, rfl⟩
theorem eX0_between_90 : D1 cX0_between 90 (.lsub) 91 := ⟨by decide +kernel, rfl⟩
theorem eX0_between_91 : D1 cX0_between 91 (.aload_n 0) 92 := ⟨by decide +kernel, rfl⟩
theorem eX0_between_92 : D3 cX0_between 92 (.getfield 228) 95 := ⟨by decide +kernel, rfl⟩
theorem eX0_between_95 : D1 cX0_between 95 (.iload_n 3) 96 := ⟨by decide +kernel, rfl⟩
theorem eX0_between_96 : D3 cX0_between 96 (.invokestatic 255) 99 := ⟨by decide +kernel, rfl⟩
theorem eX0_between_99 : D1 cX0_between 99 (.lreturn) 100 := ⟨by decide +kernel, rfl⟩
theorem eX0_misfit_0 : D1 cX0_misfit 0 (.aload_n 0) 1 := ⟨by decide +kernel, rfl⟩
theorem eX0_misfit_1 : D1 cX0_misfit 1 (.iload_n 1) 2 := ⟨by decide +kernel, rfl⟩
theorem eX0_misfit_2 : D3 cX0_misfit 2 (.invokevirtual 153) 5 := ⟨by decide +kernel, rfl⟩
theorem eX0_misfit_5 : DJ cX0_misfit 5 (.ifCond .eq) 18 8 := ⟨13, by decide +kernel, by decide, rfl⟩
theorem eX0_misfit_8 : D1 cX0_misfit 8 (.iload_n 2) 9 := ⟨by decide +kernel, rfl⟩
theorem eX0_misfit_9 : D1 cX0_misfit 9 (.i2l) 10 := ⟨by decide +kernel, rfl⟩
theorem eX0_misfit_10 : D1 cX0_misfit 10 (.lconst 0) 11 := ⟨by decide +kernel, rfl⟩
theorem eX0_misfit_11 : D1 cX0_misfit 11 (.lconst 1) 12 := ⟨by decide +kernel, rfl⟩
theorem eX0_misfit_12 : D3 cX0_misfit 12 (.invokestatic 103) 15 := ⟨by decide +kernel, rfl⟩
theorem eX0_misfit_15 : DJ cX0_misfit 15 (.ifCond .ne) 22 18 := ⟨7, by decide +kernel, by decide, rfl⟩
theorem eX0_misfit_18 : D3 cX0_misfit 18 (.ldc2_w 240) 21 := ⟨by decide +kernel, rfl⟩
theorem eX0_misfit_21 : D1 cX0_misfit 21 (.lreturn) 22 := ⟨by decide +kernel, rfl⟩
theorem eX0_misfit_22 : D1 cX0_misfit 22 (.aload_n 0) 23 := ⟨by decide +kernel, rfl⟩
theorem eX0_misfit_23 : D3 cX0_misfit 23 (.invokevirtual 216) 26 := ⟨by decide +kernel, rfl⟩
theorem eX0_misfit_26 : D1 cX0_misfit 26 (.aload_n 0) 27 := ⟨by decide +kernel, rfl⟩
theorem eX0_misfit_27 : D1 cX0_misfit 27 (.aload_n 0) 28 := ⟨by decide +kernel, rfl⟩
theorem eX0_misfit_28 : D3 cX0_misfit 28 (.getfield 33) 31 := ⟨by decide +kernel, rfl⟩
theorem eX0_misfit_31 : D1 cX0_misfit 31 (.iload_n 1) 32 := ⟨by decide +kernel, rfl⟩
theorem eX0_misfit_32 : D1 cX0_misfit 32 (.iaload) 33 := ⟨by decide +kernel, rfl⟩
theorem eX0_misfit_33 : D3 cX0_misfit 33 (.invokevirtual 242) 36 := ⟨by decide +kernel, rfl⟩
theorem eX0_misfit_36 : DJ cX0_misfit 36 (.ifCond .eq) 43 39 := ⟨7, by decide +kernel, by decide, rfl⟩
theorem eX0_misfit_39 : D3 cX0_misfit 39 (.ldc2_w 240) 42 := ⟨by decide +kernel, rfl⟩
theorem eX0_misfit_42 : D1 cX0_misfit 42 (.lreturn) 43 := ⟨by decide +kernel, rfl⟩
theorem eX0_misfit_43 : D1 cX0_misfit 43 (.aload_n 0) 44 := ⟨by decide +kernel, rfl⟩
theorem eX0_misfit_44 : D1 cX0_misfit 44 (.aload_n 0) 45 := ⟨by decide +kernel, rfl⟩
theorem eX0_misfit_45 : D3 cX0_misfit 45 (.getfield 33) 48 := ⟨by decide +kernel, rfl⟩
theorem eX0_misfit_48 : D1 cX0_misfit 48 (.iload_n 1) 49 := ⟨by decide +kernel, rfl⟩
theorem eX0_misfit_49 : D1 cX0_misfit 49 (.iaload) 50 := ⟨by decide +kernel, rfl⟩
theorem eX0_misfit_50 : D3 cX0_misfit 50 (.invokevirtual 245) 53 := ⟨by decide +kernel, rfl⟩
theorem eX0_misfit_53 : D1 cX0_misfit 53 (.aload_n 0) 54 := ⟨by decide +kernel, rfl⟩
theorem eX0_misfit_54 : D3 cX0_misfit 54 (.invokevirtual 248) 57 := ⟨by decide +kernel, rfl⟩
theorem eX0_misfit_57 : D1 cX0_misfit 57 (.lconst 0) 58 := ⟨by decide +kernel, rfl⟩
theorem eX0_misfit_58 : D1 cX0_misfit 58 (.lstore_n 3) 59 := ⟨by decide +kernel, rfl⟩
theorem eX0_misfit_59 : DC cX0_misfit 59 (0) 60 := Or.inl ⟨0, ⟨by decide +kernel, rfl⟩, by decide⟩
theorem eX0_misfit_60 : D2 cX0_misfit 60 (.istore 5) 62 := ⟨by decide +kernel, rfl⟩
theorem eX0_misfit_62 : D2 cX0_misfit 62 (.iload 5) 64 := ⟨by decide +kernel, rfl⟩
theorem eX0_misfit_64 : D1 cX0_misfit 64 (.aload_n 0) 65 := ⟨by decide +kernel, rfl⟩
theorem eX0_misfit_65 : D3 cX0_misfit 65 (.getfield 207) 68 := ⟨by decide +kernel, rfl⟩
theorem eX0_misfit_68 : DJ cX0_misfit 68 (.if_icmp .ge) 144 71 := ⟨76, by decide +kernel, by decide, rfl⟩
theorem eX0_misfit_71 : D1 cX0_misfit 71 (.aload_n 0) 72 := ⟨by decide +kernel, rfl⟩
theorem eX0_misfit_72 : D3 cX0_misfit 72 (.getfield 33) 75 := ⟨by decide +kernel, rfl⟩
theorem eX0_misfit_75 : D1 cX0_misfit 75 (.aload_n 0) 76 := ⟨by decide +kernel, rfl⟩
theorem eX0_misfit_76 : D3 cX0_misfit 76 (.getfield 23) 79 := ⟨by decide +kernel, rfl⟩
theorem eX0_misfit_79 : D2 cX0_misfit 79 (.iload 5) 81 := ⟨by decide +kernel, rfl⟩
theorem eX0_misfit_81 : D1 cX0_misfit 81 (.iaload) 82 := ⟨by decide +kernel, rfl⟩
theorem eX0_misfit_82 : D1 cX0_misfit 82 (.iaload) 83 := ⟨by decide +kernel, rfl⟩
theorem eX0_misfit_83 : D1 cX0_misfit 83 (.aload_n 0) 84 := ⟨by decide +kernel, rfl⟩
theorem eX0_misfit_84 : D3 cX0_misfit 84 (.getfield 33) 87 := ⟨by decide +kernel, rfl⟩
theorem eX0_misfit_87 : D1 cX0_misfit 87 (.iload_n 1) 88 := ⟨by decide +kernel, rfl⟩
theorem eX0_misfit_88 : D1 cX0_misfit 88 (.iaload) 89 := ⟨by decide +kernel, rfl⟩
theorem eX0_misfit_89 : DJ cX0_misfit 89 (.if_icmp .eq) 95 92 := ⟨6, by decide +kernel, by decide, rfl⟩
theorem eX0_misfit_92 : DJ cX0_misfit 92 .goto 138 95 := ⟨46, by decide +kernel, by decide, rfl⟩
theorem eX0_misfit_95 : D1 cX0_misfit 95 (.lload_n 3) 96 := ⟨by decide +kernel, rfl⟩
theorem eX0_misfit_96 : D1 cX0_misfit 96 (.aload_n 0) 97 := ⟨by decide +kernel, rfl⟩
theorem eX0_misfit_97 : D1 cX0_misfit 97 (.aload_n 0) 98 := ⟨by decide +kernel, rfl⟩
theorem eX0_misfit_98 : D3 cX0_misfit 98 (.getfield 23) 101 := ⟨by decide +kernel, rfl⟩
theorem eX0_misfit_101 : D2 cX0_misfit 101 (.iload 5) 103 := ⟨by decide +kernel, rfl⟩
theorem eX0_misfit_103 : D1 cX0_misfit 103 (.iaload) 104 := ⟨by decide +kernel, rfl⟩
theorem eX0_misfit_104 : D3 cX0_misfit 104 (.invokevirtual 251) 107 := ⟨by decide +kernel, rfl⟩
theorem eX0_misfit_107 : D1 cX0_misfit 107 (.aload_n 0) 108 := ⟨by decide +kernel, rfl⟩
theorem eX0_misfit_108 : D1 cX0_misfit 108 (.aload_n 0) 109 := ⟨by decide +kernel, rfl⟩
theorem eX0_misfit_109 : D3 cX0_misfit 109 (.getfield 27) 112 := ⟨by decide +kernel, rfl⟩
theorem eX0_misfit_112 : D2 cX0_misfit 112 (.iload 5) 114 := ⟨by decide +kernel, rfl⟩
theorem eX0_misfit_114 : D1 cX0_misfit 114 (.iaload) 115 := ⟨by decide +kernel, rfl⟩
theorem eX0_misfit_115 : D3 cX0_misfit 115 (.invokevirtual 251) 118 := ⟨by decide +kernel, rfl⟩
theorem eX0_misfit_118 : D1 cX0_misfit 118 (.lsub) 119 := ⟨by decide +kernel, rfl⟩
theorem eX0_misfit_119 : D1 cX0_misfit 119 (.aload_n 0) 120 := ⟨by decide +kernel, rfl⟩
theorem eX0_misfit_120 : D3 cX0_misfit 120 (.getfield 30) 123 := ⟨by decide +kernel, rfl⟩
theorem eX0_misfit_123 : D2 cX0_misfit 123 (.iload 5) 125 := ⟨by decide +kernel, rfl⟩
theorem eX0_misfit_125 : D1 cX0_misfit 125 (.iaload) 126 := ⟨by decide +kernel, rfl⟩
theorem eX0_misfit_126 : D1 cX0_misfit 126 (.i2l) 127 := ⟨by decide +kernel, rfl⟩
theorem eX0_misfit_127 : D1 cX0_misfit 127 (.aload_n 0) 128 := ⟨by decide +kernel, rfl⟩
theorem eX0_misfit_128 : D3 cX0_misfit 128 (.getfield 228) 131 := ⟨by decide +kernel, rfl⟩
theorem eX0_misfit_131 : D1 cX0_misfit 131 (.lmul) 132 := ⟨by decide +kernel, rfl⟩
theorem eX0_misfit_132 : D1 cX0_misfit 132 (.lsub) 133 := ⟨by decide +kernel, rfl⟩
theorem eX0_misfit_133 : D3 cX0_misfit 133 (.invokestatic 232) 136 := ⟨by decide +kernel, rfl⟩
theorem eX0_misfit_136 : D1 cX0_misfit 136 (.ladd) 137 := ⟨by decide +kernel, rfl⟩
theorem eX0_misfit_137 : D1 cX0_misfit 137 (.lstore_n 3) 138 := ⟨by decide +kernel, rfl⟩
theorem eX0_misfit_138 : D3 cX0_misfit 138 (.iinc 5 1) 141 := ⟨by decide +kernel, rfl⟩
theorem eX0_misfit_141 : DJ cX0_misfit 141 .goto 62 144 := ⟨-79, by decide +kernel, by decide, rfl⟩
theorem eX0_misfit_144 : D1 cX0_misfit 144 (.lload_n 3) 145 := ⟨by decide +kernel, rfl⟩
theorem eX0_misfit_145 : D1 cX0_misfit 145 (.aload_n 0) 146 := ⟨by decide +kernel, rfl⟩
theorem eX0_misfit_146 : D3 cX0_misfit 146 (.getfield 228) 149 := ⟨by decide +kernel, rfl⟩
theorem eX0_misfit_149 : D1 cX0_misfit 149 (.iload_n 2) 150 := ⟨by decide +kernel, rfl⟩
theorem eX0_misfit_150 : D3 cX0_misfit 150 (.invokestatic 255) 153 := ⟨by decide +kernel, rfl⟩
theorem eX0_misfit_153 : D1 cX0_misfit 153 (.lreturn) 154 := ⟨by decide +kernel, rfl⟩
theorem eX0_sure_0 : D1 cX0_sure 0 (.aload_n 0) 1 := ⟨by decide +kernel, rfl⟩
theorem eX0_sure_1 : D1 cX0_sure 1 (.iload_n 1) 2 := ⟨by decide +kernel, rfl⟩
theorem eX0_sure_2 : D3 cX0_sure 2 (.invokevirtual 153) 5 := ⟨by decide +kernel, rfl⟩
theorem eX0_sure_5 : DJ cX0_sure 5 (.ifCond .eq) 16 8 := ⟨11, by decide +kernel, by decide, rfl⟩
theorem eX0_sure_8 : D1 cX0_sure 8 (.aload_n 0) 9 := ⟨by decide +kernel, rfl⟩
theorem eX0_sure_9 : D1 cX0_sure 9 (.iload_n 2) 10 := ⟨by decide +kernel, rfl⟩
theorem eX0_sure_10 : D3 cX0_sure 10 (.invokevirtual 153) 13 := ⟨by decide +kernel, rfl⟩
theorem eX0_sure_13 : DJ cX0_sure 13 (.ifCond .ne) 18 16 := ⟨5, by decide +kernel, by decide, rfl⟩
theorem eX0_sure_16 : DC cX0_sure 16 (-1) 17 := Or.inl ⟨-1, ⟨by decide +kernel, rfl⟩, by decide⟩
theorem eX0_sure_17 : D1 cX0_sure 17 (.ireturn) 18 := ⟨by decide +kernel, rfl⟩
theorem eX0_sure_18 : D1 cX0_sure 18 (.iload_n 1) 19 := ⟨by decide +kernel, rfl⟩
theorem eX0_sure_19 : D1 cX0_sure 19 (.iload_n 2) 20 := ⟨by decide +kernel, rfl⟩
theorem eX0_sure_20 : DJ cX0_sure 20 (.if_icmp .ne) 26 23 := ⟨6, by decide +kernel, by decide, rfl⟩
theorem eX0_sure_23 : DC cX0_sure 23 (-2) 25 := Or.inr (Or.inl ⟨-2, ⟨by decide +kernel, rfl⟩, by decide⟩)
theorem eX0_sure_25 : D1 cX0_sure 25 (.ireturn) 26 := ⟨by decide +kernel, rfl⟩
theorem eX0_sure_26 : DC cX0_sure 26 (0) 27 := Or.inl ⟨0, ⟨by decide +kernel, rfl⟩, by decide⟩
theorem eX0_sure_27 : D1 cX0_sure 27 (.istore_n 3) 28 := ⟨by decide +kernel, rfl⟩
theorem eX0_sure_28 : DC cX0_sure 28 (0) 29 := Or.inl ⟨0, ⟨by decide +kernel, rfl⟩, by decide⟩
theorem eX0_sure_29 : D2 cX0_sure 29 (.istore 4) 31 := ⟨by decide +kernel, rfl⟩
theorem eX0_sure_31 : DC cX0_sure 31 (0) 32 := Or.inl ⟨0, ⟨by decide +kernel, rfl⟩, by decide⟩
theorem eX0_sure_32 : D2 cX0_sure 32 (.istore 5) 34 := ⟨by decide +kernel, rfl⟩
theorem eX0_sure_34 : D2 cX0_sure 34 (.iload 5) 36 := ⟨by decide +kernel, rfl⟩
theorem eX0_sure_36 : D1 cX0_sure 36 (.aload_n 0) 37 := ⟨by decide +kernel, rfl⟩
theorem eX0_sure_37 : D3 cX0_sure 37 (.getfield 207) 40 := ⟨by decide +kernel, rfl⟩
theorem eX0_sure_40 : DJ cX0_sure 40 (.if_icmp .ge) 157 43 := ⟨117, by decide +kernel, by decide, rfl⟩
theorem eX0_sure_43 : D1 cX0_sure 43 (.aload_n 0) 44 := ⟨by decide +kernel, rfl⟩
theorem eX0_sure_44 : D3 cX0_sure 44 (.getfield 23) 47 := ⟨by decide +kernel, rfl⟩
theorem eX0_sure_47 : D2 cX0_sure 47 (.iload 5) 49 := ⟨by decide +kernel, rfl⟩
theorem eX0_sure_49 : D1 cX0_sure 49 (.iaload) 50 := ⟨by decide +kernel, rfl⟩
theorem eX0_sure_50 : D1 cX0_sure 50 (.iload_n 1) 51 := ⟨by decide +kernel, rfl⟩
theorem eX0_sure_51 : DJ cX0_sure 51 (.if_icmp .ne) 69 54 := ⟨18, by decide +kernel, by decide, rfl⟩
theorem eX0_sure_54 : D1 cX0_sure 54 (.aload_n 0) 55 := ⟨by decide +kernel, rfl⟩
theorem eX0_sure_55 : D3 cX0_sure 55 (.getfield 27) 58 := ⟨by decide +kernel, rfl⟩
theorem eX0_sure_58 : D2 cX0_sure 58 (.iload 5) 60 := ⟨by decide +kernel, rfl⟩
theorem eX0_sure_60 : D1 cX0_sure 60 (.iaload) 61 := ⟨by decide +kernel, rfl⟩
theorem eX0_sure_61 : D1 cX0_sure 61 (.iload_n 2) 62 := ⟨by decide +kernel, rfl⟩
theorem eX0_sure_62 : DJ cX0_sure 62 (.if_icmp .ne) 69 65 := ⟨7, by decide +kernel, by decide, rfl⟩
theorem eX0_sure_65 : DC cX0_sure 65 (1) 66 := Or.inl ⟨1, ⟨by decide +kernel, rfl⟩, by decide⟩
theorem eX0_sure_66 : DJ cX0_sure 66 .goto 70 69 := ⟨4, by decide +kernel, by decide, rfl⟩
theorem eX0_sure_69 : DC cX0_sure 69 (0) 70 := Or.inl ⟨0, ⟨by decide +kernel, rfl⟩, by decide⟩
theorem eX0_sure_70 : D2 cX0_sure 70 (.istore 6) 72 := ⟨by decide +kernel, rfl⟩
theorem eX0_sure_72 : D1 cX0_sure 72 (.aload_n 0) 73 := ⟨by decide +kernel, rfl⟩
theorem eX0_sure_73 : D3 cX0_sure 73 (.getfield 23) 76 := ⟨by decide +kernel, rfl⟩
theorem eX0_sure_76 : D2 cX0_sure 76 (.iload 5) 78 := ⟨by decide +kernel, rfl⟩
theorem eX0_sure_78 : D1 cX0_sure 78 (.iaload) 79 := ⟨by decide +kernel, rfl⟩
theorem eX0_sure_79 : D1 cX0_sure 79 (.iload_n 2) 80 := ⟨by decide +kernel, rfl⟩
theorem eX0_sure_80 : DJ cX0_sure 80 (.if_icmp .ne) 98 83 := ⟨18, by decide +kernel, by decide, rfl⟩
theorem eX0_sure_83 : D1 cX0_sure 83 (.aload_n 0) 84 := ⟨by decide +kernel, rfl⟩
theorem eX0_sure_84 : D3 cX0_sure 84 (.getfield 27) 87 := ⟨by decide +kernel, rfl⟩
theorem eX0_sure_87 : D2 cX0_sure 87 (.iload 5) 89 := ⟨by decide +kernel, rfl⟩
theorem eX0_sure_89 : D1 cX0_sure 89 (.iaload) 90 := ⟨by decide +kernel, rfl⟩
theorem eX0_sure_90 : D1 cX0_sure 90 (.iload_n 1) 91 := ⟨by decide +kernel, rfl⟩
theorem eX0_sure_91 : DJ cX0_sure 91 (.if_icmp .ne) 98 94 := ⟨7, by decide +kernel, by decide, rfl⟩
theorem eX0_sure_94 : DC cX0_sure 94 (1) 95 := Or.inl ⟨1, ⟨by decide +kernel, rfl⟩, by decide⟩
theorem eX0_sure_95 : DJ cX0_sure 95 .goto 99 98 := ⟨4, by decide +kernel, by decide, rfl⟩
theorem eX0_sure_98 : DC cX0_sure 98 (0) 99 := Or.inl ⟨0, ⟨by decide +kernel, rfl⟩, by decide⟩
theorem eX0_sure_99 : D2 cX0_sure 99 (.istore 7) 101 := ⟨by decide +kernel, rfl⟩
theorem eX0_sure_101 : D2 cX0_sure 101 (.iload 6) 103 := ⟨by decide +kernel, rfl⟩
theorem eX0_sure_103 : DJ cX0_sure 103 (.ifCond .eq) 116 106 := ⟨13, by decide +kernel, by decide, rfl⟩
theorem eX0_sure_106 : D1 cX0_sure 106 (.aload_n 0) 107 := ⟨by decide +kernel, rfl⟩
theorem eX0_sure_107 : D3 cX0_sure 107 (.getfield 30) 110 := ⟨by decide +kernel, rfl⟩
theorem eX0_sure_110 : D2 cX0_sure 110 (.iload 5) 112 := ⟨by decide +kernel, rfl⟩
theorem eX0_sure_112 : D1 cX0_sure 112 (.iaload) 113 := ⟨by decide +kernel, rfl⟩
theorem eX0_sure_113 : DJ cX0_sure 113 .goto 133 116 := ⟨20, by decide +kernel, by decide, rfl⟩
theorem eX0_sure_116 : D2 cX0_sure 116 (.iload 7) 118 := ⟨by decide +kernel, rfl⟩
theorem eX0_sure_118 : DJ cX0_sure 118 (.ifCond .eq) 132 121 := ⟨14, by decide +kernel, by decide, rfl⟩
theorem eX0_sure_121 : D1 cX0_sure 121 (.aload_n 0) 122 := ⟨by decide +kernel, rfl⟩
theorem eX0_sure_122 : D3 cX0_sure 122 (.getfield 30) 125 := ⟨by decide +kernel, rfl⟩
theorem eX0_sure_125 : D2 cX0_sure 125 (.iload 5) 127 := ⟨by decide +kernel, rfl⟩
theorem eX0_sure_127 : D1 cX0_sure 127 (.iaload) 128 := ⟨by decide +kernel, rfl⟩
theorem eX0_sure_128 : D1 cX0_sure 128 (.ineg) 129 := ⟨by decide +kernel, rfl⟩
theorem eX0_sure_129 : DJ cX0_sure 129 .goto 133 132 := ⟨4, by decide +kernel, by decide, rfl⟩
theorem eX0_sure_132 : DC cX0_sure 132 (0) 133 := Or.inl ⟨0, ⟨by decide +kernel, rfl⟩, by decide⟩
theorem eX0_sure_133 : D2 cX0_sure 133 (.istore 8) 135 := ⟨by decide +kernel, rfl⟩
theorem eX0_sure_135 : D2 cX0_sure 135 (.iload 8) 137 := ⟨by decide +kernel, rfl⟩
theorem eX0_sure_137 : DJ cX0_sure 137 (.ifCond .le) 143 140 := ⟨6, by decide +kernel, by decide, rfl⟩
theorem eX0_sure_140 : D3 cX0_sure 140 (.iinc 3 1) 143 := ⟨by decide +kernel, rfl⟩
theorem eX0_sure_143 : D2 cX0_sure 143 (.iload 8) 145 := ⟨by decide +kernel, rfl⟩
theorem eX0_sure_145 : DJ cX0_sure 145 (.ifCond .ge) 151 148 := ⟨6, by decide +kernel, by decide, rfl⟩
theorem eX0_sure_148 : D3 cX0_sure 148 (.iinc 4 1) 151 := ⟨by decide +kernel, rfl⟩
theorem eX0_sure_151 : D3 cX0_sure 151 (.iinc 5 1) 154 := ⟨by decide +kernel, rfl⟩
theorem eX0_sure_154 : DJ cX0_sure 154 .goto 34 157 := ⟨-120, by decide +kernel, by decide, rfl⟩
theorem eX0_sure_157 : D1 cX0_sure 157 (.iload_n 3) 158 := ⟨by decide +kernel, rfl⟩
theorem eX0_sure_158 : DJ cX0_sure 158 (.ifCond .le) 170 161 := ⟨12, by decide +kernel, by decide, rfl⟩
theorem eX0_sure_161 : D2 cX0_sure 161 (.iload 4) 163 := ⟨by decide +kernel, rfl⟩
theorem eX0_sure_163 : DJ cX0_sure 163 (.ifCond .ne) 170 166 := ⟨7, by decide +kernel, by decide, rfl⟩
theorem eX0_sure_166 : DC cX0_sure 166 (1) 167 := Or.inl ⟨1, ⟨by decide +kernel, rfl⟩, by decide⟩
theorem eX0_sure_167 : DJ cX0_sure 167 .goto 184 170 := ⟨17, by decide +kernel, by decide, rfl⟩
theorem eX0_sure_170 : D2 cX0_sure 170 (.iload 4) 172 := ⟨by decide +kernel, rfl⟩
theorem eX0_sure_172 : DJ cX0_sure 172 (.ifCond .le) 183 175 := ⟨11, by decide +kernel, by decide, rfl⟩
theorem eX0_sure_175 : D1 cX0_sure 175 (.iload_n 3) 176 := ⟨by decide +kernel, rfl⟩
theorem eX0_sure_176 : DJ cX0_sure 176 (.ifCond .ne) 183 179 := ⟨7, by decide +kernel, by decide, rfl⟩
theorem eX0_sure_179 : DC cX0_sure 179 (2) 180 := Or.inl ⟨2, ⟨by decide +kernel, rfl⟩, by decide⟩
theorem eX0_sure_180 : DJ cX0_sure 180 .goto 184 183 := ⟨4, by decide +kernel, by decide, rfl⟩
theorem eX0_sure_183 : DC cX0_sure 183 (0) 184 := Or.inl ⟨0, ⟨by decide +kernel, rfl⟩, by decide⟩
theorem eX0_sure_184 : D1 cX0_sure 184 (.ireturn) 185 := ⟨by decide +kernel, rfl⟩
theorem eX0_mayCome_0 : D1 cX0_mayCome 0 (.aload_n 0) 1 := ⟨by decide +kernel, rfl⟩
theorem eX0_mayCome_1 : D3 cX0_mayCome 1 (.getfield 13) 4 := ⟨by decide +kernel, rfl⟩
theorem eX0_mayCome_4 : D1 cX0_mayCome 4 (.iload_n 2) 5 := ⟨by decide +kernel, rfl⟩
theorem eX0_mayCome_5 : D1 cX0_mayCome 5 (.aaload) 6 := ⟨by decide +kernel, rfl⟩
theorem eX0_mayCome_6 : D1 cX0_mayCome 6 (.aload_n 0) 7 := ⟨by decide +kernel, rfl⟩
theorem eX0_mayCome_7 : D3 cX0_mayCome 7 (.getfield 265) 10 := ⟨by decide +kernel, rfl⟩
theorem eX0_mayCome_10 : D3 cX0_mayCome 10 (.invokevirtual 197) 13 := ⟨by decide +kernel, rfl⟩
theorem eX0_mayCome_13 : DJ cX0_mayCome 13 (.ifCond .eq) 34 16 := ⟨21, by decide +kernel, by decide, rfl⟩
theorem eX0_mayCome_16 : D1 cX0_mayCome 16 (.aload_n 1) 17 := ⟨by decide +kernel, rfl⟩
theorem eX0_mayCome_17 : D3 cX0_mayCome 17 (.invokevirtual 118) 20 := ⟨by decide +kernel, rfl⟩
theorem eX0_mayCome_20 : DJ cX0_mayCome 20 (.ifCond .eq) 36 23 := ⟨16, by decide +kernel, by decide, rfl⟩
theorem eX0_mayCome_23 : D1 cX0_mayCome 23 (.aload_n 1) 24 := ⟨by decide +kernel, rfl⟩
theorem eX0_mayCome_24 : D3 cX0_mayCome 24 (.getfield 167) 27 := ⟨by decide +kernel, rfl⟩
theorem eX0_mayCome_27 : DC cX0_mayCome 27 (8) 29 := Or.inr (Or.inl ⟨8, ⟨by decide +kernel, rfl⟩, by decide⟩)
theorem eX0_mayCome_29 : D1 cX0_mayCome 29 (.iaload) 30 := ⟨by decide +kernel, rfl⟩
theorem eX0_mayCome_30 : D1 cX0_mayCome 30 (.iload_n 2) 31 := ⟨by decide +kernel, rfl⟩
theorem eX0_mayCome_31 : DJ cX0_mayCome 31 (.if_icmp .ne) 36 34 := ⟨5, by decide +kernel, by decide, rfl⟩
theorem eX0_mayCome_34 : DC cX0_mayCome 34 (0) 35 := Or.inl ⟨0, ⟨by decide +kernel, rfl⟩, by decide⟩
theorem eX0_mayCome_35 : D1 cX0_mayCome 35 (.ireturn) 36 := ⟨by decide +kernel, rfl⟩
theorem eX0_mayCome_36 : DC cX0_mayCome 36 (0) 37 := Or.inl ⟨0, ⟨by decide +kernel, rfl⟩, by decide⟩
theorem eX0_mayCome_37 : D1 cX0_mayCome 37 (.istore_n 3) 38 := ⟨by decide +kernel, rfl⟩
theorem eX0_mayCome_38 : D1 cX0_mayCome 38 (.iload_n 3) 39 := ⟨by decide +kernel, rfl⟩
theorem eX0_mayCome_39 : D1 cX0_mayCome 39 (.aload_n 0) 40 := ⟨by decide +kernel, rfl⟩
theorem eX0_mayCome_40 : D3 cX0_mayCome 40 (.getfield 107) 43 := ⟨by decide +kernel, rfl⟩
theorem eX0_mayCome_43 : DJ cX0_mayCome 43 (.if_icmp .ge) 78 46 := ⟨35, by decide +kernel, by decide, rfl⟩
theorem eX0_mayCome_46 : D1 cX0_mayCome 46 (.aload_n 0) 47 := ⟨by decide +kernel, rfl⟩
theorem eX0_mayCome_47 : D3 cX0_mayCome 47 (.getfield 19) 50 := ⟨by decide +kernel, rfl⟩
theorem eX0_mayCome_50 : D1 cX0_mayCome 50 (.iload_n 3) 51 := ⟨by decide +kernel, rfl⟩
theorem eX0_mayCome_51 : D1 cX0_mayCome 51 (.aaload) 52 := ⟨by decide +kernel, rfl⟩
theorem eX0_mayCome_52 : D1 cX0_mayCome 52 (.aload_n 1) 53 := ⟨by decide +kernel, rfl⟩
theorem eX0_mayCome_53 : DJ cX0_mayCome 53 (.if_acmp .eq) 72 56 := ⟨19, by decide +kernel, by decide, rfl⟩
theorem eX0_mayCome_56 : D1 cX0_mayCome 56 (.aload_n 0) 57 := ⟨by decide +kernel, rfl⟩
theorem eX0_mayCome_57 : D3 cX0_mayCome 57 (.getfield 19) 60 := ⟨by decide +kernel, rfl⟩
theorem eX0_mayCome_60 : D1 cX0_mayCome 60 (.iload_n 3) 61 := ⟨by decide +kernel, rfl⟩
theorem eX0_mayCome_61 : D1 cX0_mayCome 61 (.aaload) 62 := ⟨by decide +kernel, rfl⟩
theorem eX0_mayCome_62 : D1 cX0_mayCome 62 (.iload_n 2) 63 := ⟨by decide +kernel, rfl⟩
theorem eX0_mayCome_63 : D3 cX0_mayCome 63 (.invokevirtual 174) 66 := ⟨by decide +kernel, rfl⟩
theorem eX0_mayCome_66 : DC cX0_mayCome 66 (-1) 67 := Or.inl ⟨-1, ⟨by decide +kernel, rfl⟩, by decide⟩
theorem eX0_mayCome_67 : DJ cX0_mayCome 67 (.if_icmp .eq) 72 70 := ⟨5, by decide +kernel, by decide, rfl⟩
theorem eX0_mayCome_70 : DC cX0_mayCome 70 (0) 71 := Or.inl ⟨0, ⟨by decide +kernel, rfl⟩, by decide⟩
theorem eX0_mayCome_71 : D1 cX0_mayCome 71 (.ireturn) 72 := ⟨by decide +kernel, rfl⟩
theorem eX0_mayCome_72 : D3 cX0_mayCome 72 (.iinc 3 1) 75 := ⟨by decide +kernel, rfl⟩
theorem eX0_mayCome_75 : DJ cX0_mayCome 75 .goto 38 78 := ⟨-37, by decide +kernel, by decide, rfl⟩
theorem eX0_mayCome_78 : DC cX0_mayCome 78 (1) 79 := Or.inl ⟨1, ⟨by decide +kernel, rfl⟩, by decide⟩
theorem eX0_mayCome_79 : D1 cX0_mayCome 79 (.ireturn) 80 := ⟨by decide +kernel, rfl⟩
theorem eX0_costOf_0 : D1 cX0_costOf 0 (.aload_n 1) 1 := ⟨by decide +kernel, rfl⟩
theorem eX0_costOf_1 : D3 cX0_costOf 1 (.getfield 167) 4 := ⟨by decide +kernel, rfl⟩
theorem eX0_costOf_4 : D1 cX0_costOf 4 (.iload_n 2) 5 := ⟨by decide +kernel, rfl⟩
theorem eX0_costOf_5 : D1 cX0_costOf 5 (.iaload) 6 := ⟨by decide +kernel, rfl⟩
theorem eX0_costOf_6 : D1 cX0_costOf 6 (.iload_n 3) 7 := ⟨by decide +kernel, rfl⟩
theorem eX0_costOf_7 : DJ cX0_costOf 7 (.if_icmp .ne) 14 10 := ⟨7, by decide +kernel, by decide, rfl⟩
theorem eX0_costOf_10 : DC cX0_costOf 10 (0) 11 := Or.inl ⟨0, ⟨by decide +kernel, rfl⟩, by decide⟩
theorem eX0_costOf_11 : DJ cX0_costOf 11 .goto 38 14 := ⟨27, by decide +kernel, by decide, rfl⟩
theorem eX0_costOf_14 : D1 cX0_costOf 14 (.aload_n 1) 15 := ⟨by decide +kernel, rfl⟩
theorem eX0_costOf_15 : D1 cX0_costOf 15 (.iload_n 3) 16 := ⟨by decide +kernel, rfl⟩
theorem eX0_costOf_16 : D3 cX0_costOf 16 (.invokevirtual 174) 19 := ⟨by decide +kernel, rfl⟩
theorem eX0_costOf_19 : DC cX0_costOf 19 (-1) 20 := Or.inl ⟨-1, ⟨by decide +kernel, rfl⟩, by decide⟩
theorem eX0_costOf_20 : DJ cX0_costOf 20 (.if_icmp .eq) 37 23 := ⟨17, by decide +kernel, by decide, rfl⟩
theorem eX0_costOf_23 : D1 cX0_costOf 23 (.aload_n 1) 24 := ⟨by decide +kernel, rfl⟩
theorem eX0_costOf_24 : D1 cX0_costOf 24 (.iload_n 3) 25 := ⟨by decide +kernel, rfl⟩
theorem eX0_costOf_25 : D3 cX0_costOf 25 (.invokevirtual 174) 28 := ⟨by decide +kernel, rfl⟩
theorem eX0_costOf_28 : DC cX0_costOf 28 (8) 30 := Or.inr (Or.inl ⟨8, ⟨by decide +kernel, rfl⟩, by decide⟩)
theorem eX0_costOf_30 : DJ cX0_costOf 30 (.if_icmp .ge) 37 33 := ⟨7, by decide +kernel, by decide, rfl⟩
theorem eX0_costOf_33 : DC cX0_costOf 33 (4) 34 := Or.inl ⟨4, ⟨by decide +kernel, rfl⟩, by decide⟩
theorem eX0_costOf_34 : DJ cX0_costOf 34 .goto 38 37 := ⟨4, by decide +kernel, by decide, rfl⟩
theorem eX0_costOf_37 : DC cX0_costOf 37 (5) 38 := Or.inl ⟨5, ⟨by decide +kernel, rfl⟩, by decide⟩
theorem eX0_costOf_38 : D2 cX0_costOf 38 (.istore 4) 40 := ⟨by decide +kernel, rfl⟩
theorem eX0_costOf_40 : D2 cX0_costOf 40 (.iload 4) 42 := ⟨by decide +kernel, rfl⟩
theorem eX0_costOf_42 : D1 cX0_costOf 42 (.aload_n 0) 43 := ⟨by decide +kernel, rfl⟩
theorem eX0_costOf_43 : D3 cX0_costOf 43 (.getfield 13) 46 := ⟨by decide +kernel, rfl⟩
theorem eX0_costOf_46 : D1 cX0_costOf 46 (.iload_n 3) 47 := ⟨by decide +kernel, rfl⟩
theorem eX0_costOf_47 : D1 cX0_costOf 47 (.aaload) 48 := ⟨by decide +kernel, rfl⟩
theorem eX0_costOf_48 : D1 cX0_costOf 48 (.aload_n 1) 49 := ⟨by decide +kernel, rfl⟩
theorem eX0_costOf_49 : D1 cX0_costOf 49 (.iload_n 2) 50 := ⟨by decide +kernel, rfl⟩
theorem eX0_costOf_50 : D3 cX0_costOf 50 (.invokevirtual 259) 53 := ⟨by decide +kernel, rfl⟩
theorem eX0_costOf_53 : D3 cX0_costOf 53 (.invokevirtual 262) 56 := ⟨by decide +kernel, rfl⟩
theorem eX0_costOf_56 : D1 cX0_costOf 56 (.iadd) 57 := ⟨by decide +kernel, rfl⟩
theorem eX0_costOf_57 : D1 cX0_costOf 57 (.ireturn) 58 := ⟨by decide +kernel, rfl⟩
theorem eX0_workOut_0 : DC cX0_workOut 0 (1) 1 := Or.inl ⟨1, ⟨by decide +kernel, rfl⟩, by decide⟩
theorem eX0_workOut_1 : D1 cX0_workOut 1 (.aload_n 1) 2 := ⟨by decide +kernel, rfl⟩
theorem eX0_workOut_2 : D3 cX0_workOut 2 (.invokevirtual 114) 5 := ⟨by decide +kernel, rfl⟩
theorem eX0_workOut_5 : D1 cX0_workOut 5 (.ishl) 6 := ⟨by decide +kernel, rfl⟩
theorem eX0_workOut_6 : D1 cX0_workOut 6 (.istore_n 2) 7 := ⟨by decide +kernel, rfl⟩
theorem eX0_workOut_7 : D1 cX0_workOut 7 (.aload_n 0) 8 := ⟨by decide +kernel, rfl⟩
theorem eX0_workOut_8 : D3 cX0_workOut 8 (.getfield 100) 11 := ⟨by decide +kernel, rfl⟩
theorem eX0_workOut_11 : D1 cX0_workOut 11 (.istore_n 3) 12 := ⟨by decide +kernel, rfl⟩
theorem eX0_workOut_12 : D1 cX0_workOut 12 (.iload_n 3) 13 := ⟨by decide +kernel, rfl⟩
theorem eX0_workOut_13 : DJ cX0_workOut 13 (.ifCond .lt) 181 16 := ⟨168, by decide +kernel, by decide, rfl⟩
theorem eX0_workOut_16 : DC cX0_workOut 16 (0) 17 := Or.inl ⟨0, ⟨by decide +kernel, rfl⟩, by decide⟩
theorem eX0_workOut_17 : D2 cX0_workOut 17 (.istore 4) 19 := ⟨by decide +kernel, rfl⟩
theorem eX0_workOut_19 : D2 cX0_workOut 19 (.iload 4) 21 := ⟨by decide +kernel, rfl⟩
theorem eX0_workOut_21 : D1 cX0_workOut 21 (.iload_n 2) 22 := ⟨by decide +kernel, rfl⟩
theorem eX0_workOut_22 : DJ cX0_workOut 22 (.if_icmp .ge) 175 25 := ⟨153, by decide +kernel, by decide, rfl⟩
theorem eX0_workOut_25 : D1 cX0_workOut 25 (.iload_n 3) 26 := ⟨by decide +kernel, rfl⟩
theorem eX0_workOut_26 : DC cX0_workOut 26 (256) 29 := Or.inr (Or.inr ⟨256, ⟨by decide +kernel, rfl⟩, by decide⟩)
theorem eX0_workOut_29 : D1 cX0_workOut 29 (.imul) 30 := ⟨by decide +kernel, rfl⟩
theorem eX0_workOut_30 : D2 cX0_workOut 30 (.iload 4) 32 := ⟨by decide +kernel, rfl⟩
theorem eX0_workOut_32 : D1 cX0_workOut 32 (.iadd) 33 := ⟨by decide +kernel, rfl⟩
theorem eX0_workOut_33 : D2 cX0_workOut 33 (.istore 5) 35 := ⟨by decide +kernel, rfl⟩
theorem eX0_workOut_35 : D1 cX0_workOut 35 (.iload_n 3) 36 := ⟨by decide +kernel, rfl⟩
theorem eX0_workOut_36 : D1 cX0_workOut 36 (.aload_n 0) 37 := ⟨by decide +kernel, rfl⟩
theorem eX0_workOut_37 : D3 cX0_workOut 37 (.getfield 100) 40 := ⟨by decide +kernel, rfl⟩
theorem eX0_workOut_40 : DJ cX0_workOut 40 (.if_icmp .ne) 68 43 := ⟨28, by decide +kernel, by decide, rfl⟩
theorem eX0_workOut_43 : D1 cX0_workOut 43 (.aload_n 0) 44 := ⟨by decide +kernel, rfl⟩
theorem eX0_workOut_44 : D3 cX0_workOut 44 (.getfield 43) 47 := ⟨by decide +kernel, rfl⟩
theorem eX0_workOut_47 : D2 cX0_workOut 47 (.iload 5) 49 := ⟨by decide +kernel, rfl⟩
theorem eX0_workOut_49 : D2 cX0_workOut 49 (.iload 4) 51 := ⟨by decide +kernel, rfl⟩
theorem eX0_workOut_51 : D1 cX0_workOut 51 (.iload_n 2) 52 := ⟨by decide +kernel, rfl⟩
theorem eX0_workOut_52 : DC cX0_workOut 52 (1) 53 := Or.inl ⟨1, ⟨by decide +kernel, rfl⟩, by decide⟩
theorem eX0_workOut_53 : D1 cX0_workOut 53 (.isub) 54 := ⟨by decide +kernel, rfl⟩
theorem eX0_workOut_54 : DJ cX0_workOut 54 (.if_icmp .ne) 61 57 := ⟨7, by decide +kernel, by decide, rfl⟩
theorem eX0_workOut_57 : DC cX0_workOut 57 (0) 58 := Or.inl ⟨0, ⟨by decide +kernel, rfl⟩, by decide⟩
theorem eX0_workOut_58 : DJ cX0_workOut 58 .goto 64 61 := ⟨6, by decide +kernel, by decide, rfl⟩
theorem eX0_workOut_61 : D3 cX0_workOut 61 (.ldc_w 268) 64 := ⟨by decide +kernel, rfl⟩
theorem eX0_workOut_64 : D1 cX0_workOut 64 (.iastore) 65 := ⟨by decide +kernel, rfl⟩
theorem eX0_workOut_65 : DJ cX0_workOut 65 .goto 169 68 := ⟨104, by decide +kernel, by decide, rfl⟩
theorem eX0_workOut_68 : D1 cX0_workOut 68 (.aload_n 0) 69 := ⟨by decide +kernel, rfl⟩
theorem eX0_workOut_69 : D3 cX0_workOut 69 (.getfield 43) 72 := ⟨by decide +kernel, rfl⟩
theorem eX0_workOut_72 : D2 cX0_workOut 72 (.iload 5) 74 := ⟨by decide +kernel, rfl⟩
theorem eX0_workOut_74 : D1 cX0_workOut 74 (.aload_n 0) 75 := ⟨by decide +kernel, rfl⟩
theorem eX0_workOut_75 : D3 cX0_workOut 75 (.getfield 43) 78 := ⟨by decide +kernel, rfl⟩
theorem eX0_workOut_78 : D2 cX0_workOut 78 (.iload 5) 80 := ⟨by decide +kernel, rfl⟩
theorem eX0_workOut_80 : DC cX0_workOut 80 (256) 83 := Or.inr (Or.inr ⟨256, ⟨by decide +kernel, rfl⟩, by decide⟩)
theorem eX0_workOut_83 : D1 cX0_workOut 83 (.iadd) 84 := ⟨by decide +kernel, rfl⟩
theorem eX0_workOut_84 : D1 cX0_workOut 84 (.iaload) 85 := ⟨by decide +kernel, rfl⟩
theorem eX0_workOut_85 : D1 cX0_workOut 85 (.iastore) 86 := ⟨by decide +kernel, rfl⟩
theorem eX0_workOut_86 : DC cX0_workOut 86 (0) 87 := Or.inl ⟨0, ⟨by decide +kernel, rfl⟩, by decide⟩
theorem eX0_workOut_87 : D2 cX0_workOut 87 (.istore 6) 89 := ⟨by decide +kernel, rfl⟩
theorem eX0_workOut_89 : D2 cX0_workOut 89 (.iload 6) 91 := ⟨by decide +kernel, rfl⟩
theorem eX0_workOut_91 : D1 cX0_workOut 91 (.aload_n 1) 92 := ⟨by decide +kernel, rfl⟩
theorem eX0_workOut_92 : D3 cX0_workOut 92 (.invokevirtual 114) 95 := ⟨by decide +kernel, rfl⟩
theorem eX0_workOut_95 : DJ cX0_workOut 95 (.if_icmp .ge) 169 98 := ⟨74, by decide +kernel, by decide, rfl⟩
theorem eX0_workOut_98 : D1 cX0_workOut 98 (.aload_n 0) 99 := ⟨by decide +kernel, rfl⟩
theorem eX0_workOut_99 : D1 cX0_workOut 99 (.aload_n 1) 100 := ⟨by decide +kernel, rfl⟩
theorem eX0_workOut_100 : D1 cX0_workOut 100 (.iload_n 3) 101 := ⟨by decide +kernel, rfl⟩
theorem eX0_workOut_101 : D3 cX0_workOut 101 (.invokevirtual 269) 104 := ⟨by decide +kernel, rfl⟩
theorem eX0_workOut_104 : DJ cX0_workOut 104 (.ifCond .eq) 169 107 := ⟨65, by decide +kernel, by decide, rfl⟩
theorem eX0_workOut_107 : D2 cX0_workOut 107 (.iload 4) 109 := ⟨by decide +kernel, rfl⟩
theorem eX0_workOut_109 : D2 cX0_workOut 109 (.iload 6) 111 := ⟨by decide +kernel, rfl⟩
theorem eX0_workOut_111 : D1 cX0_workOut 111 (.ishr) 112 := ⟨by decide +kernel, rfl⟩
theorem eX0_workOut_112 : DC cX0_workOut 112 (1) 113 := Or.inl ⟨1, ⟨by decide +kernel, rfl⟩, by decide⟩
theorem eX0_workOut_113 : D1 cX0_workOut 113 (.iand) 114 := ⟨by decide +kernel, rfl⟩
theorem eX0_workOut_114 : DC cX0_workOut 114 (1) 115 := Or.inl ⟨1, ⟨by decide +kernel, rfl⟩, by decide⟩
theorem eX0_workOut_115 : DJ cX0_workOut 115 (.if_icmp .ne) 121 118 := ⟨6, by decide +kernel, by decide, rfl⟩
theorem eX0_workOut_118 : DJ cX0_workOut 118 .goto 163 121 := ⟨45, by decide +kernel, by decide, rfl⟩
theorem eX0_workOut_121 : D1 cX0_workOut 121 (.aload_n 0) 122 := ⟨by decide +kernel, rfl⟩
theorem eX0_workOut_122 : D3 cX0_workOut 122 (.getfield 43) 125 := ⟨by decide +kernel, rfl⟩
theorem eX0_workOut_125 : D2 cX0_workOut 125 (.iload 5) 127 := ⟨by decide +kernel, rfl⟩
theorem eX0_workOut_127 : D1 cX0_workOut 127 (.aload_n 0) 128 := ⟨by decide +kernel, rfl⟩
theorem eX0_workOut_128 : D3 cX0_workOut 128 (.getfield 43) 131 := ⟨by decide +kernel, rfl⟩
theorem eX0_workOut_131 : D2 cX0_workOut 131 (.iload 5) 133 := ⟨by decide +kernel, rfl⟩
theorem eX0_workOut_133 : D1 cX0_workOut 133 (.iaload) 134 := ⟨by decide +kernel, rfl⟩
theorem eX0_workOut_134 : D1 cX0_workOut 134 (.aload_n 0) 135 := ⟨by decide +kernel, rfl⟩
theorem eX0_workOut_135 : D1 cX0_workOut 135 (.aload_n 1) 136 := ⟨by decide +kernel, rfl⟩
theorem eX0_workOut_136 : D2 cX0_workOut 136 (.iload 6) 138 := ⟨by decide +kernel, rfl⟩
theorem eX0_workOut_138 : D1 cX0_workOut 138 (.iload_n 3) 139 := ⟨by decide +kernel, rfl⟩
theorem eX0_workOut_139 : D3 cX0_workOut 139 (.invokevirtual 273) 142 := ⟨by decide +kernel, rfl⟩
theorem eX0_workOut_142 : D1 cX0_workOut 142 (.aload_n 0) 143 := ⟨by decide +kernel, rfl⟩
theorem eX0_workOut_143 : D3 cX0_workOut 143 (.getfield 43) 146 := ⟨by decide +kernel, rfl⟩
theorem eX0_workOut_146 : D2 cX0_workOut 146 (.iload 5) 148 := ⟨by decide +kernel, rfl⟩
theorem eX0_workOut_148 : DC cX0_workOut 148 (256) 151 := Or.inr (Or.inr ⟨256, ⟨by decide +kernel, rfl⟩, by decide⟩)
theorem eX0_workOut_151 : D1 cX0_workOut 151 (.iadd) 152 := ⟨by decide +kernel, rfl⟩
theorem eX0_workOut_152 : DC cX0_workOut 152 (1) 153 := Or.inl ⟨1, ⟨by decide +kernel, rfl⟩, by decide⟩
theorem eX0_workOut_153 : D2 cX0_workOut 153 (.iload 6) 155 := ⟨by decide +kernel, rfl⟩
theorem eX0_workOut_155 : D1 cX0_workOut 155 (.ishl) 156 := ⟨by decide +kernel, rfl⟩
theorem eX0_workOut_156 : D1 cX0_workOut 156 (.iadd) 157 := ⟨by decide +kernel, rfl⟩
theorem eX0_workOut_157 : D1 cX0_workOut 157 (.iaload) 158 := ⟨by decide +kernel, rfl⟩
theorem eX0_workOut_158 : D1 cX0_workOut 158 (.iadd) 159 := ⟨by decide +kernel, rfl⟩
theorem eX0_workOut_159 : D3 cX0_workOut 159 (.invokestatic 210) 162 := ⟨by decide +kernel, rfl⟩
theorem eX0_workOut_162 : D1 cX0_workOut 162 (.iastore) 163 := ⟨by decide +kernel, rfl⟩
theorem eX0_workOut_163 : D3 cX0_workOut 163 (.iinc 6 1) 166 := ⟨by decide +kernel, rfl⟩
theorem eX0_workOut_166 : DJ cX0_workOut 166 .goto 89 169 := ⟨-77, by decide +kernel, by decide, rfl⟩
theorem eX0_workOut_169 : D3 cX0_workOut 169 (.iinc 4 1) 172 := ⟨by decide +kernel, rfl⟩
theorem eX0_workOut_172 : DJ cX0_workOut 172 .goto 19 175 := ⟨-153, by decide +kernel, by decide, rfl⟩
theorem eX0_workOut_175 : D3 cX0_workOut 175 (.iinc 3 (-1)) 178 := ⟨by decide +kernel, rfl⟩
theorem eX0_workOut_178 : DJ cX0_workOut 178 .goto 12 181 := ⟨-166, by decide +kernel, by decide, rfl⟩
theorem eX0_workOut_181 : D1 cX0_workOut 181 (.return_) 182 := ⟨by decide +kernel, rfl⟩
theorem eX0_crew_0 : D1 cX0_crew 0 (.aload_n 0) 1 := ⟨by decide +kernel, rfl⟩
theorem eX0_crew_1 : D1 cX0_crew 1 (.iload_n 1) 2 := ⟨by decide +kernel, rfl⟩
theorem eX0_crew_2 : D3 cX0_crew 2 (.invokevirtual 110) 5 := ⟨by decide +kernel, rfl⟩
theorem eX0_crew_5 : DJ cX0_crew 5 (.ifCond .ne) 10 8 := ⟨5, by decide +kernel, by decide, rfl⟩
theorem eX0_crew_8 : DC cX0_crew 8 (-1) 9 := Or.inl ⟨-1, ⟨by decide +kernel, rfl⟩, by decide⟩
theorem eX0_crew_9 : D1 cX0_crew 9 (.ireturn) 10 := ⟨by decide +kernel, rfl⟩
theorem eX0_crew_10 : D1 cX0_crew 10 (.iload_n 2) 11 := ⟨by decide +kernel, rfl⟩
theorem eX0_crew_11 : D1 cX0_crew 11 (.i2l) 12 := ⟨by decide +kernel, rfl⟩
theorem eX0_crew_12 : D1 cX0_crew 12 (.lconst 0) 13 := ⟨by decide +kernel, rfl⟩
theorem eX0_crew_13 : D3 cX0_crew 13 (.ldc2_w 277) 16 := ⟨by decide +kernel, rfl⟩
theorem eX0_crew_16 : D3 cX0_crew 16 (.invokestatic 103) 19 := ⟨by decide +kernel, rfl⟩
theorem eX0_crew_19 : DJ cX0_crew 19 (.ifCond .eq) 32 22 := ⟨13, by decide +kernel, by decide, rfl⟩
theorem eX0_crew_22 : D1 cX0_crew 22 (.iload_n 3) 23 := ⟨by decide +kernel, rfl⟩
theorem eX0_crew_23 : D1 cX0_crew 23 (.i2l) 24 := ⟨by decide +kernel, rfl⟩
theorem eX0_crew_24 : D1 cX0_crew 24 (.lconst 0) 25 := ⟨by decide +kernel, rfl⟩
theorem eX0_crew_25 : D1 cX0_crew 25 (.lconst 1) 26 := ⟨by decide +kernel, rfl⟩
theorem eX0_crew_26 : D3 cX0_crew 26 (.invokestatic 103) 29 := ⟨by decide +kernel, rfl⟩
theorem eX0_crew_29 : DJ cX0_crew 29 (.ifCond .ne) 35 32 := ⟨6, by decide +kernel, by decide, rfl⟩
theorem eX0_crew_32 : DC cX0_crew 32 (-2) 34 := Or.inr (Or.inl ⟨-2, ⟨by decide +kernel, rfl⟩, by decide⟩)
theorem eX0_crew_34 : D1 cX0_crew 34 (.ireturn) 35 := ⟨by decide +kernel, rfl⟩
theorem eX0_crew_35 : D1 cX0_crew 35 (.aload_n 0) 36 := ⟨by decide +kernel, rfl⟩
theorem eX0_crew_36 : D3 cX0_crew 36 (.getfield 19) 39 := ⟨by decide +kernel, rfl⟩
theorem eX0_crew_39 : D1 cX0_crew 39 (.iload_n 1) 40 := ⟨by decide +kernel, rfl⟩
theorem eX0_crew_40 : D1 cX0_crew 40 (.aaload) 41 := ⟨by decide +kernel, rfl⟩
theorem eX0_crew_41 : D2 cX0_crew 41 (.astore 4) 43 := ⟨by decide +kernel, rfl⟩
theorem eX0_crew_43 : D1 cX0_crew 43 (.aload_n 0) 44 := ⟨by decide +kernel, rfl⟩
theorem eX0_crew_44 : D1 cX0_crew 44 (.iload_n 2) 45 := ⟨by decide +kernel, rfl⟩
theorem eX0_crew_45 : D3 cX0_crew 45 (.putfield 265) 48 := ⟨by decide +kernel, rfl⟩
theorem eX0_crew_48 : D1 cX0_crew 48 (.aload_n 0) 49 := ⟨by decide +kernel, rfl⟩
theorem eX0_crew_49 : D2 cX0_crew 49 (.aload 4) 51 := ⟨by decide +kernel, rfl⟩
theorem eX0_crew_51 : D3 cX0_crew 51 (.invokevirtual 279) 54 := ⟨by decide +kernel, rfl⟩
theorem eX0_crew_54 : D1 cX0_crew 54 (.aload_n 0) 55 := ⟨by decide +kernel, rfl⟩
theorem eX0_crew_55 : D3 cX0_crew 55 (.getfield 43) 58 := ⟨by decide +kernel, rfl⟩
theorem eX0_crew_58 : DC cX0_crew 58 (0) 59 := Or.inl ⟨0, ⟨by decide +kernel, rfl⟩, by decide⟩
theorem eX0_crew_59 : D1 cX0_crew 59 (.iaload) 60 := ⟨by decide +kernel, rfl⟩
theorem eX0_crew_60 : D3 cX0_crew 60 (.ldc_w 268) 63 := ⟨by decide +kernel, rfl⟩
theorem eX0_crew_63 : DJ cX0_crew 63 (.if_icmp .lt) 69 66 := ⟨6, by decide +kernel, by decide, rfl⟩
theorem eX0_crew_66 : DC cX0_crew 66 (-3) 68 := Or.inr (Or.inl ⟨-3, ⟨by decide +kernel, rfl⟩, by decide⟩)
theorem eX0_crew_68 : D1 cX0_crew 68 (.ireturn) 69 := ⟨by decide +kernel, rfl⟩
theorem eX0_crew_69 : D1 cX0_crew 69 (.aload_n 0) 70 := ⟨by decide +kernel, rfl⟩
theorem eX0_crew_70 : D3 cX0_crew 70 (.getfield 43) 73 := ⟨by decide +kernel, rfl⟩
theorem eX0_crew_73 : DC cX0_crew 73 (0) 74 := Or.inl ⟨0, ⟨by decide +kernel, rfl⟩, by decide⟩
theorem eX0_crew_74 : D1 cX0_crew 74 (.iaload) 75 := ⟨by decide +kernel, rfl⟩
theorem eX0_crew_75 : D2 cX0_crew 75 (.istore 5) 77 := ⟨by decide +kernel, rfl⟩
theorem eX0_crew_77 : D1 cX0_crew 77 (.iload_n 3) 78 := ⟨by decide +kernel, rfl⟩
theorem eX0_crew_78 : DJ cX0_crew 78 (.ifCond .ne) 84 81 := ⟨6, by decide +kernel, by decide, rfl⟩
theorem eX0_crew_81 : D2 cX0_crew 81 (.iload 5) 83 := ⟨by decide +kernel, rfl⟩
theorem eX0_crew_83 : D1 cX0_crew 83 (.ireturn) 84 := ⟨by decide +kernel, rfl⟩
theorem eX0_crew_84 : DC cX0_crew 84 (0) 85 := Or.inl ⟨0, ⟨by decide +kernel, rfl⟩, by decide⟩
theorem eX0_crew_85 : D2 cX0_crew 85 (.istore 6) 87 := ⟨by decide +kernel, rfl⟩
theorem eX0_crew_87 : DC cX0_crew 87 (0) 88 := Or.inl ⟨0, ⟨by decide +kernel, rfl⟩, by decide⟩
theorem eX0_crew_88 : D2 cX0_crew 88 (.istore 7) 90 := ⟨by decide +kernel, rfl⟩
theorem eX0_crew_90 : D2 cX0_crew 90 (.iload 7) 92 := ⟨by decide +kernel, rfl⟩
theorem eX0_crew_92 : D1 cX0_crew 92 (.aload_n 0) 93 := ⟨by decide +kernel, rfl⟩
theorem eX0_crew_93 : D3 cX0_crew 93 (.getfield 100) 96 := ⟨by decide +kernel, rfl⟩
theorem eX0_crew_96 : DJ cX0_crew 96 (.if_icmp .ge) 225 99 := ⟨129, by decide +kernel, by decide, rfl⟩
theorem eX0_crew_99 : D2 cX0_crew 99 (.iload 7) 101 := ⟨by decide +kernel, rfl⟩
theorem eX0_crew_101 : DC cX0_crew 101 (256) 104 := Or.inr (Or.inr ⟨256, ⟨by decide +kernel, rfl⟩, by decide⟩)
theorem eX0_crew_104 : D1 cX0_crew 104 (.imul) 105 := ⟨by decide +kernel, rfl⟩
theorem eX0_crew_105 : D2 cX0_crew 105 (.iload 6) 107 := ⟨by decide +kernel, rfl⟩
theorem eX0_crew_107 : D1 cX0_crew 107 (.iadd) 108 := ⟨by decide +kernel, rfl⟩
theorem eX0_crew_108 : D2 cX0_crew 108 (.istore 8) 110 := ⟨by decide +kernel, rfl⟩
theorem eX0_crew_110 : DC cX0_crew 110 (-1) 111 := Or.inl ⟨-1, ⟨by decide +kernel, rfl⟩, by decide⟩
theorem eX0_crew_111 : D2 cX0_crew 111 (.istore 9) 113 := ⟨by decide +kernel, rfl⟩
theorem eX0_crew_113 : D2 cX0_crew 113 (.aload 4) 115 := ⟨by decide +kernel, rfl⟩
theorem eX0_crew_115 : D3 cX0_crew 115 (.invokevirtual 114) 118 := ⟨by decide +kernel, rfl⟩
theorem eX0_crew_118 : DC cX0_crew 118 (1) 119 := Or.inl ⟨1, ⟨by decide +kernel, rfl⟩, by decide⟩
theorem eX0_crew_119 : D1 cX0_crew 119 (.isub) 120 := ⟨by decide +kernel, rfl⟩
theorem eX0_crew_120 : D2 cX0_crew 120 (.istore 10) 122 := ⟨by decide +kernel, rfl⟩
theorem eX0_crew_122 : D2 cX0_crew 122 (.iload 10) 124 := ⟨by decide +kernel, rfl⟩
theorem eX0_crew_124 : DJ cX0_crew 124 (.ifCond .lt) 195 127 := ⟨71, by decide +kernel, by decide, rfl⟩
theorem eX0_crew_127 : D1 cX0_crew 127 (.aload_n 0) 128 := ⟨by decide +kernel, rfl⟩
theorem eX0_crew_128 : D2 cX0_crew 128 (.aload 4) 130 := ⟨by decide +kernel, rfl⟩
theorem eX0_crew_130 : D2 cX0_crew 130 (.iload 7) 132 := ⟨by decide +kernel, rfl⟩
theorem eX0_crew_132 : D3 cX0_crew 132 (.invokevirtual 269) 135 := ⟨by decide +kernel, rfl⟩
theorem eX0_crew_135 : DJ cX0_crew 135 (.ifCond .eq) 195 138 := ⟨60, by decide +kernel, by decide, rfl⟩
theorem eX0_crew_138 : D2 cX0_crew 138 (.iload 6) 140 := ⟨by decide +kernel, rfl⟩
theorem eX0_crew_140 : D2 cX0_crew 140 (.iload 10) 142 := ⟨by decide +kernel, rfl⟩
theorem eX0_crew_142 : D1 cX0_crew 142 (.ishr) 143 := ⟨by decide +kernel, rfl⟩
theorem eX0_crew_143 : DC cX0_crew 143 (1) 144 := Or.inl ⟨1, ⟨by decide +kernel, rfl⟩, by decide⟩
theorem eX0_crew_144 : D1 cX0_crew 144 (.iand) 145 := ⟨by decide +kernel, rfl⟩
theorem eX0_crew_145 : DJ cX0_crew 145 (.ifCond .ne) 189 148 := ⟨44, by decide +kernel, by decide, rfl⟩
theorem eX0_crew_148 : D1 cX0_crew 148 (.aload_n 0) 149 := ⟨by decide +kernel, rfl⟩
theorem eX0_crew_149 : D2 cX0_crew 149 (.aload 4) 151 := ⟨by decide +kernel, rfl⟩
theorem eX0_crew_151 : D2 cX0_crew 151 (.iload 10) 153 := ⟨by decide +kernel, rfl⟩
theorem eX0_crew_153 : D2 cX0_crew 153 (.iload 7) 155 := ⟨by decide +kernel, rfl⟩
theorem eX0_crew_155 : D3 cX0_crew 155 (.invokevirtual 273) 158 := ⟨by decide +kernel, rfl⟩
theorem eX0_crew_158 : D1 cX0_crew 158 (.aload_n 0) 159 := ⟨by decide +kernel, rfl⟩
theorem eX0_crew_159 : D3 cX0_crew 159 (.getfield 43) 162 := ⟨by decide +kernel, rfl⟩
theorem eX0_crew_162 : D2 cX0_crew 162 (.iload 8) 164 := ⟨by decide +kernel, rfl⟩
theorem eX0_crew_164 : DC cX0_crew 164 (256) 167 := Or.inr (Or.inr ⟨256, ⟨by decide +kernel, rfl⟩, by decide⟩)
theorem eX0_crew_167 : D1 cX0_crew 167 (.iadd) 168 := ⟨by decide +kernel, rfl⟩
theorem eX0_crew_168 : DC cX0_crew 168 (1) 169 := Or.inl ⟨1, ⟨by decide +kernel, rfl⟩, by decide⟩
theorem eX0_crew_169 : D2 cX0_crew 169 (.iload 10) 171 := ⟨by decide +kernel, rfl⟩
theorem eX0_crew_171 : D1 cX0_crew 171 (.ishl) 172 := ⟨by decide +kernel, rfl⟩
theorem eX0_crew_172 : D1 cX0_crew 172 (.iadd) 173 := ⟨by decide +kernel, rfl⟩
theorem eX0_crew_173 : D1 cX0_crew 173 (.iaload) 174 := ⟨by decide +kernel, rfl⟩
theorem eX0_crew_174 : D1 cX0_crew 174 (.iadd) 175 := ⟨by decide +kernel, rfl⟩
theorem eX0_crew_175 : D1 cX0_crew 175 (.aload_n 0) 176 := ⟨by decide +kernel, rfl⟩
theorem eX0_crew_176 : D3 cX0_crew 176 (.getfield 43) 179 := ⟨by decide +kernel, rfl⟩
theorem eX0_crew_179 : D2 cX0_crew 179 (.iload 8) 181 := ⟨by decide +kernel, rfl⟩
theorem eX0_crew_181 : D1 cX0_crew 181 (.iaload) 182 := ⟨by decide +kernel, rfl⟩
theorem eX0_crew_182 : DJ cX0_crew 182 (.if_icmp .ne) 189 185 := ⟨7, by decide +kernel, by decide, rfl⟩
theorem eX0_crew_185 : D2 cX0_crew 185 (.iload 10) 187 := ⟨by decide +kernel, rfl⟩
theorem eX0_crew_187 : D2 cX0_crew 187 (.istore 9) 189 := ⟨by decide +kernel, rfl⟩
theorem eX0_crew_189 : D3 cX0_crew 189 (.iinc 10 (-1)) 192 := ⟨by decide +kernel, rfl⟩
theorem eX0_crew_192 : DJ cX0_crew 192 .goto 122 195 := ⟨-70, by decide +kernel, by decide, rfl⟩
theorem eX0_crew_195 : D1 cX0_crew 195 (.aload_n 0) 196 := ⟨by decide +kernel, rfl⟩
theorem eX0_crew_196 : D3 cX0_crew 196 (.getfield 46) 199 := ⟨by decide +kernel, rfl⟩
theorem eX0_crew_199 : D2 cX0_crew 199 (.iload 7) 201 := ⟨by decide +kernel, rfl⟩
theorem eX0_crew_201 : D2 cX0_crew 201 (.iload 9) 203 := ⟨by decide +kernel, rfl⟩
theorem eX0_crew_203 : D1 cX0_crew 203 (.iastore) 204 := ⟨by decide +kernel, rfl⟩
theorem eX0_crew_204 : D2 cX0_crew 204 (.iload 9) 206 := ⟨by decide +kernel, rfl⟩
theorem eX0_crew_206 : DC cX0_crew 206 (-1) 207 := Or.inl ⟨-1, ⟨by decide +kernel, rfl⟩, by decide⟩
theorem eX0_crew_207 : DJ cX0_crew 207 (.if_icmp .eq) 219 210 := ⟨12, by decide +kernel, by decide, rfl⟩
theorem eX0_crew_210 : D2 cX0_crew 210 (.iload 6) 212 := ⟨by decide +kernel, rfl⟩
theorem eX0_crew_212 : DC cX0_crew 212 (1) 213 := Or.inl ⟨1, ⟨by decide +kernel, rfl⟩, by decide⟩
theorem eX0_crew_213 : D2 cX0_crew 213 (.iload 9) 215 := ⟨by decide +kernel, rfl⟩
theorem eX0_crew_215 : D1 cX0_crew 215 (.ishl) 216 := ⟨by decide +kernel, rfl⟩
theorem eX0_crew_216 : D1 cX0_crew 216 (.ior) 217 := ⟨by decide +kernel, rfl⟩
theorem eX0_crew_217 : D2 cX0_crew 217 (.istore 6) 219 := ⟨by decide +kernel, rfl⟩
theorem eX0_crew_219 : D3 cX0_crew 219 (.iinc 7 1) 222 := ⟨by decide +kernel, rfl⟩
theorem eX0_crew_222 : DJ cX0_crew 222 .goto 90 225 := ⟨-132, by decide +kernel, by decide, rfl⟩
theorem eX0_crew_225 : DC cX0_crew 225 (0) 226 := Or.inl ⟨0, ⟨by decide +kernel, rfl⟩, by decide⟩
theorem eX0_crew_226 : D2 cX0_crew 226 (.istore 7) 228 := ⟨by decide +kernel, rfl⟩
theorem eX0_crew_228 : D2 cX0_crew 228 (.iload 7) 230 := ⟨by decide +kernel, rfl⟩
theorem eX0_crew_230 : D2 cX0_crew 230 (.aload 4) 232 := ⟨by decide +kernel, rfl⟩
theorem eX0_crew_232 : D3 cX0_crew 232 (.invokevirtual 114) 235 := ⟨by decide +kernel, rfl⟩
theorem eX0_crew_235 : DJ cX0_crew 235 (.if_icmp .ge) 253 238 := ⟨18, by decide +kernel, by decide, rfl⟩
theorem eX0_crew_238 : D2 cX0_crew 238 (.aload 4) 240 := ⟨by decide +kernel, rfl⟩
theorem eX0_crew_240 : D3 cX0_crew 240 (.getfield 167) 243 := ⟨by decide +kernel, rfl⟩
theorem eX0_crew_243 : D2 cX0_crew 243 (.iload 7) 245 := ⟨by decide +kernel, rfl⟩
theorem eX0_crew_245 : DC cX0_crew 245 (-1) 246 := Or.inl ⟨-1, ⟨by decide +kernel, rfl⟩, by decide⟩
theorem eX0_crew_246 : D1 cX0_crew 246 (.iastore) 247 := ⟨by decide +kernel, rfl⟩
theorem eX0_crew_247 : D3 cX0_crew 247 (.iinc 7 1) 250 := ⟨by decide +kernel, rfl⟩
theorem eX0_crew_250 : DJ cX0_crew 250 .goto 228 253 := ⟨-22, by decide +kernel, by decide, rfl⟩
theorem eX0_crew_253 : DC cX0_crew 253 (0) 254 := Or.inl ⟨0, ⟨by decide +kernel, rfl⟩, by decide⟩
theorem eX0_crew_254 : D2 cX0_crew 254 (.istore 7) 256 := ⟨by decide +kernel, rfl⟩
theorem eX0_crew_256 : D2 cX0_crew 256 (.iload 7) 258 := ⟨by decide +kernel, rfl⟩
theorem eX0_crew_258 : D1 cX0_crew 258 (.aload_n 0) 259 := ⟨by decide +kernel, rfl⟩
theorem eX0_crew_259 : D3 cX0_crew 259 (.getfield 100) 262 := ⟨by decide +kernel, rfl⟩
theorem eX0_crew_262 : DJ cX0_crew 262 (.if_icmp .ge) 297 265 := ⟨35, by decide +kernel, by decide, rfl⟩
theorem eX0_crew_265 : D1 cX0_crew 265 (.aload_n 0) 266 := ⟨by decide +kernel, rfl⟩
theorem eX0_crew_266 : D3 cX0_crew 266 (.getfield 46) 269 := ⟨by decide +kernel, rfl⟩
theorem eX0_crew_269 : D2 cX0_crew 269 (.iload 7) 271 := ⟨by decide +kernel, rfl⟩
theorem eX0_crew_271 : D1 cX0_crew 271 (.iaload) 272 := ⟨by decide +kernel, rfl⟩
theorem eX0_crew_272 : DC cX0_crew 272 (-1) 273 := Or.inl ⟨-1, ⟨by decide +kernel, rfl⟩, by decide⟩
theorem eX0_crew_273 : DJ cX0_crew 273 (.if_icmp .eq) 291 276 := ⟨18, by decide +kernel, by decide, rfl⟩
theorem eX0_crew_276 : D2 cX0_crew 276 (.aload 4) 278 := ⟨by decide +kernel, rfl⟩
theorem eX0_crew_278 : D3 cX0_crew 278 (.getfield 167) 281 := ⟨by decide +kernel, rfl⟩
theorem eX0_crew_281 : D1 cX0_crew 281 (.aload_n 0) 282 := ⟨by decide +kernel, rfl⟩
theorem eX0_crew_282 : D3 cX0_crew 282 (.getfield 46) 285 := ⟨by decide +kernel, rfl⟩
theorem eX0_crew_285 : D2 cX0_crew 285 (.iload 7) 287 := ⟨by decide +kernel, rfl⟩
theorem eX0_crew_287 : D1 cX0_crew 287 (.iaload) 288 := ⟨by decide +kernel, rfl⟩
theorem eX0_crew_288 : D2 cX0_crew 288 (.iload 7) 290 := ⟨by decide +kernel, rfl⟩
theorem eX0_crew_290 : D1 cX0_crew 290 (.iastore) 291 := ⟨by decide +kernel, rfl⟩
theorem eX0_crew_291 : D3 cX0_crew 291 (.iinc 7 1) 294 := ⟨by decide +kernel, rfl⟩
theorem eX0_crew_294 : DJ cX0_crew 294 .goto 256 297 := ⟨-38, by decide +kernel, by decide, rfl⟩
theorem eX0_crew_297 : D2 cX0_crew 297 (.iload 5) 299 := ⟨by decide +kernel, rfl⟩
theorem eX0_crew_299 : D1 cX0_crew 299 (.ireturn) 300 := ⟨by decide +kernel, rfl⟩
def sX_strengthOf (w : Wd) (a1 : Int32) : Option (Int64) :=
  rd (inb a1 16) (w.2.1 9 (Int32.toNatClampNeg a1)) fun v1 => if v1 = (-1 : Int32) then (some (0 : Int64)) else (rd (inb a1 16) (w.2.1 9 (Int32.toNatClampNeg a1)) fun v2 => bd (sX_at v2 (w.2.1 90 12)) fun v3 => rd (inb v3 272) (w.2.2 11 (Int32.toNatClampNeg v3)) fun v4 => some v4)
abbrev rmX0_strengthOf : Room := { frames := 1, cells := 0, slots := 0, locals := 21 }
theorem pkX0_strengthOf : PkV yX0_strengthOf RX0 cX0_strengthOf 2 (some .long) 1 := ⟨q437, qs10, q57, q438, by decide +kernel⟩
set_option maxHeartbeats 4000000 in
theorem met_X0_strengthOf (l : Launch) (D : va_G) (g : Nat → ClassId) (ad sd : Nat → Nat) (w : Wd) (a1 : Int32) (sz : Nat) (r : Int64) (ho : sX_strengthOf w a1 = some r) : Met l yX0_strengthOf (ws_ yX0_strengthOf cX0_strengthOf 2 (some .long)) rmX0_strengthOf (va_Pc [.ref (ad 99), .int a1] (MPre D vwCl (tysG g) (cellsX g ad w) (NXX sd (cellsX g ad w)) sz)) (QcL D vwCl (tysG g) (cellsX g ad w) r (va_A (cellsX g ad w) sz)) 0 0 (va_A (cellsX g ad w) sz) := by
  refine met_XJ (cw := cellsX g ad) (w := w) (cc := cX0_strengthOf) (lv := [(0, .ref (ad 99)), (1, .int a1)]) pnX0 _ (Nat.le_of_ble_eq_true rfl) rfl ?_
  intro p e s m args below meth c R Q A B hN hr hsz hA hmm hRm hQ hAe
  have hX : NXA sd A s := by rw [hAe, ← hsz]; exact hN
  unfold sX_strengthOf at ho
  refine j_aload_n B eX0_strengthOf_0 0 rfl ?_
  refine gfX_9 B eX0_strengthOf_1 ?_
  refine j_iload_n B eX0_strengthOf_4 1 rfl ?_
  refine ldX_9 B eX0_strengthOf_5 ho (fun v1 ho => ?_)
  refine j_const B eX0_strengthOf_6 ?_
  refine j_icmp_ne B eX0_strengthOf_7 ho (fun _ ho => ?_) (fun _ ho => ?_)
  · refine j_aload_n B eX0_strengthOf_14 0 rfl ?_
    refine gfX_11 B eX0_strengthOf_15 ?_
    refine j_aload_n B eX0_strengthOf_18 0 rfl ?_
    refine gfX_9 B eX0_strengthOf_19 ?_
    refine j_iload_n B eX0_strengthOf_22 1 rfl ?_
    refine ldX_9 B eX0_strengthOf_23 ho (fun v2 ho => ?_)
    refine j_aload_n B eX0_strengthOf_24 0 rfl ?_
    refine gfX_12 B eX0_strengthOf_25 ?_
    refine j_callSi (As := [.int v2, .int (w.2.1 90 12)]) B hA (met_X0_at l D _ _ _ v2 (w.2.1 90 12)) NT_ok pkX0_at q428 rfl rfl hRm ⟨Nat.le_of_ble_eq_true rfl, Nat.le_of_ble_eq_true rfl⟩ rfl rfl (Nat.le_of_ble_eq_true rfl) ⟨Nat.zero_le _, Nat.zero_le _⟩ eX0_strengthOf_28 ho (fun v3 ho => ?_)
    refine ldX_11 B eX0_strengthOf_31 ho (fun v4 ho => ?_)
    exact j_lret B hr hQ eX0_strengthOf_32 ho
  · refine j_lconst (v := 0) B eX0_strengthOf_10 rfl ?_
    refine j_goto B eX0_strengthOf_11 ?_
    exact j_lret B hr hQ eX0_strengthOf_32 ho
def sX_strength (w : Wd) (a1 : Int32) (a2 : Int32) : Option (Int64 × Wd) :=
  bd (sX_isOar w a1) fun v1 => if v1 = 0 then (some ((-9223372036854775808 : Int64), w)) else (bd (sX_in (Int32.toInt64 a2) (0 : Int64) (1 : Int64)) fun v2 => if v2 = 0 then (some ((-9223372036854775808 : Int64), w)) else (bd (sX_findParts w) fun w3 => rd (inb a1 16) (w3.2.1 8 (Int32.toNatClampNeg a1)) fun v4 => bd (sX_isBig w3 v4) fun v5 => if v5 = 0 then (rd (inb a1 16) (w3.2.1 8 (Int32.toNatClampNeg a1)) fun v6 => bd (sX_layOut w3 v6) fun w7 => bd (sX_solve w7) fun w8 => bd (sX_strengthOf w8 a1) fun v9 => bd (sX_told v9 (w8.2.2 90 13) a2) fun v10 => some (v10, w8)) else (some ((-9223372036854775808 : Int64), w3))))
abbrev rmX0_strength : Room := { frames := 3, cells := 0, slots := 0, locals := 76 }
theorem pkX0_strength : PkV yX0_strength RX0 cX0_strength 3 (some .long) 2 := ⟨q412, q413, q57, q414, by decide +kernel⟩
set_option maxHeartbeats 4000000 in
theorem met_X0_strength (l : Launch) (D : va_G) (g : Nat → ClassId) (ad sd : Nat → Nat) (w : Wd) (a1 : Int32) (a2 : Int32) (sz : Nat) (r : Int64) (w' : Wd) (ho : sX_strength w a1 a2 = some (r, w')) : Met l yX0_strength (ws_ yX0_strength cX0_strength 3 (some .long)) rmX0_strength (va_Pc [.ref (ad 99), .int a1, .int a2] (MPre D vwCl (tysG g) (cellsX g ad w) (NXX sd (cellsX g ad w)) sz)) (QcL D vwCl (tysG g) (cellsX g ad w') r (va_A (cellsX g ad w) sz)) 0 0 (va_A (cellsX g ad w) sz) := by
  refine met_XJ (cw := cellsX g ad) (w := w) (cc := cX0_strength) (lv := [(0, .ref (ad 99)), (1, .int a1), (2, .int a2)]) pnX0 _ (Nat.le_of_ble_eq_true rfl) rfl ?_
  intro p e s m args below meth c R Q A B hN hr hsz hA hmm hRm hQ hAe
  have hX : NXA sd A s := by rw [hAe, ← hsz]; exact hN
  unfold sX_strength at ho
  refine j_aload_n B eX0_strength_0 0 rfl ?_
  refine j_iload_n B eX0_strength_1 1 rfl ?_
  refine j_callVi (As := [.int a1]) B hA (met_X0_isOar l D g ad sd w a1) (NXX_ok hX) pkX0_isOar q325 0 rfl rfl rfl rfl hRm ⟨Nat.le_of_ble_eq_true rfl, Nat.le_of_ble_eq_true rfl⟩ rfl rfl (Nat.le_of_ble_eq_true rfl) ⟨Nat.zero_le _, Nat.zero_le _⟩ eX0_strength_2 ho (fun v1 ho => ?_)
  refine j_if_eq B eX0_strength_5 ho (fun _ ho => ?_) (fun _ ho => ?_)
  · refine j_ldc2 B eX0_strength_18 q415 ?_
    exact j_lretw B hr hQ eX0_strength_21 ho
  · refine j_iload_n B eX0_strength_8 2 rfl ?_
    refine j_i2l B eX0_strength_9 ?_
    refine j_lconst (v := 0) B eX0_strength_10 rfl ?_
    refine j_lconst (v := 1) B eX0_strength_11 rfl ?_
    refine j_callSi (As := [.long (Int32.toInt64 a2), .long (0 : Int64), .long (1 : Int64)]) B hA (met_X0_in l D _ _ _ (Int32.toInt64 a2) (0 : Int64) (1 : Int64)) NT_ok pkX0_in q224 rfl rfl hRm ⟨Nat.le_of_ble_eq_true rfl, Nat.le_of_ble_eq_true rfl⟩ rfl rfl (Nat.le_of_ble_eq_true rfl) ⟨Nat.zero_le _, Nat.zero_le _⟩ eX0_strength_12 ho (fun v2 ho => ?_)
    refine j_if_ne B eX0_strength_15 ho (fun _ ho => ?_) (fun _ ho => ?_)
    · refine j_aload_n B eX0_strength_22 0 rfl ?_
      refine j_callVvw (As := []) B hA (met_X0_findParts l D g ad sd w) (NXX_ok hX) pkX0_findParts q404 0 rfl rfl rfl rfl hRm ⟨Nat.le_of_ble_eq_true rfl, Nat.le_of_ble_eq_true rfl⟩ rfl rfl (Nat.le_of_ble_eq_true rfl) ⟨Nat.zero_le _, Nat.zero_le _⟩ eX0_strength_23 ho (fun w3 ho => ?_)
      refine j_aload_n B eX0_strength_26 0 rfl ?_
      refine j_aload_n B eX0_strength_27 0 rfl ?_
      refine gfX_8 B eX0_strength_28 ?_
      refine j_iload_n B eX0_strength_31 1 rfl ?_
      refine ldX_8 B eX0_strength_32 ho (fun v4 ho => ?_)
      refine j_callVi (As := [.int v4]) B hA (met_X0_isBig l D g ad sd w3 v4) (NXX_ok hX) pkX0_isBig q416 0 rfl rfl rfl rfl hRm ⟨Nat.le_of_ble_eq_true rfl, Nat.le_of_ble_eq_true rfl⟩ rfl rfl (Nat.le_of_ble_eq_true rfl) ⟨Nat.zero_le _, Nat.zero_le _⟩ eX0_strength_33 ho (fun v5 ho => ?_)
      refine j_if_eq B eX0_strength_36 ho (fun _ ho => ?_) (fun _ ho => ?_)
      · refine j_aload_n B eX0_strength_43 0 rfl ?_
        refine j_aload_n B eX0_strength_44 0 rfl ?_
        refine gfX_8 B eX0_strength_45 ?_
        refine j_iload_n B eX0_strength_48 1 rfl ?_
        refine ldX_8 B eX0_strength_49 ho (fun v6 ho => ?_)
        refine j_callVvw (As := [.int v6]) B hA (met_X0_layOut l D g ad sd w3 v6) (NXX_ok hX) pkX0_layOut q420 0 rfl rfl rfl rfl hRm ⟨Nat.le_of_ble_eq_true rfl, Nat.le_of_ble_eq_true rfl⟩ rfl rfl (Nat.le_of_ble_eq_true rfl) ⟨Nat.zero_le _, Nat.zero_le _⟩ eX0_strength_50 ho (fun w7 ho => ?_)
        refine j_aload_n B eX0_strength_53 0 rfl ?_
        refine j_callVvw (As := []) B hA (met_X0_solve l D g ad sd w7) (NXX_ok hX) pkX0_solve q431 0 rfl rfl rfl rfl hRm ⟨Nat.le_of_ble_eq_true rfl, Nat.le_of_ble_eq_true rfl⟩ rfl rfl (Nat.le_of_ble_eq_true rfl) ⟨Nat.zero_le _, Nat.zero_le _⟩ eX0_strength_54 ho (fun w8 ho => ?_)
        refine j_aload_n B eX0_strength_57 0 rfl ?_
        refine j_iload_n B eX0_strength_58 1 rfl ?_
        refine j_callVl (As := [.int a1]) B hA (met_X0_strengthOf l D g ad sd w8 a1) (NXX_ok hX) pkX0_strengthOf q435 0 rfl rfl rfl rfl hRm ⟨Nat.le_of_ble_eq_true rfl, Nat.le_of_ble_eq_true rfl⟩ rfl rfl (Nat.le_of_ble_eq_true rfl) ⟨Nat.zero_le _, Nat.zero_le _⟩ eX0_strength_59 ho (fun v9 ho => ?_)
        refine j_aload_n B eX0_strength_62 0 rfl ?_
        refine gfX_13 B eX0_strength_63 ?_
        refine j_iload_n B eX0_strength_66 2 rfl ?_
        refine j_callSl (As := [.long v9, .long (w8.2.2 90 13), .int a2]) B hA (met_X0_told l D _ _ _ v9 (w8.2.2 90 13) a2) NT_ok pkX0_told q439 rfl rfl hRm ⟨Nat.le_of_ble_eq_true rfl, Nat.le_of_ble_eq_true rfl⟩ rfl rfl (Nat.le_of_ble_eq_true rfl) ⟨Nat.zero_le _, Nat.zero_le _⟩ eX0_strength_67 ho (fun v10 ho => ?_)
        exact j_lretw B hr hQ eX0_strength_70 ho
      · refine j_ldc2 B eX0_strength_39 q415 ?_
        exact j_lretw B hr hQ eX0_strength_42 ho
    · refine j_ldc2 B eX0_strength_18 q415 ?_
      exact j_lretw B hr hQ eX0_strength_21 ho
def sX_between (w : Wd) (a1 : Int32) (a2 : Int32) (a3 : Int32) : Option (Int64 × Wd) :=
  bd (sX_isOar w a1) fun v1 => if v1 = 0 then (some ((-9223372036854775808 : Int64), w)) else (bd (sX_isOar w a2) fun v2 => if v2 = 0 then (some ((-9223372036854775808 : Int64), w)) else (bd (sX_in (Int32.toInt64 a3) (0 : Int64) (1 : Int64)) fun v3 => if v3 = 0 then (some ((-9223372036854775808 : Int64), w)) else (bd (sX_findParts w) fun w4 => rd (inb a1 16) (w4.2.1 8 (Int32.toNatClampNeg a1)) fun v5 => rd (inb a2 16) (w4.2.1 8 (Int32.toNatClampNeg a2)) fun v6 => if v5 = v6 then (rd (inb a1 16) (w4.2.1 8 (Int32.toNatClampNeg a1)) fun v7 => bd (sX_isBig w4 v7) fun v8 => if v8 = 0 then (rd (inb a1 16) (w4.2.1 8 (Int32.toNatClampNeg a1)) fun v9 => bd (sX_layOut w4 v9) fun w10 => bd (sX_solve w10) fun w11 => bd (sX_strengthOf w11 a1) fun v12 => bd (sX_strengthOf w11 a2) fun v13 => bd (sX_told (v12 - v13) (w11.2.2 90 13) a3) fun v14 => some (v14, w11)) else (some ((-9223372036854775808 : Int64), w4))) else (some ((-9223372036854775808 : Int64), w4)))))
abbrev rmX0_between : Room := { frames := 3, cells := 0, slots := 0, locals := 76 }
theorem pkX0_between : PkV yX0_between RX0 cX0_between 4 (some .long) 3 := ⟨q449, q450, q57, q451, by decide +kernel⟩
set_option maxHeartbeats 4000000 in
theorem met_X0_between (l : Launch) (D : va_G) (g : Nat → ClassId) (ad sd : Nat → Nat) (w : Wd) (a1 : Int32) (a2 : Int32) (a3 : Int32) (sz : Nat) (r : Int64) (w' : Wd) (ho : sX_between w a1 a2 a3 = some (r, w')) : Met l yX0_between (ws_ yX0_between cX0_between 4 (some .long)) rmX0_between (va_Pc [.ref (ad 99), .int a1, .int a2, .int a3] (MPre D vwCl (tysG g) (cellsX g ad w) (NXX sd (cellsX g ad w)) sz)) (QcL D vwCl (tysG g) (cellsX g ad w') r (va_A (cellsX g ad w) sz)) 0 0 (va_A (cellsX g ad w) sz) := by
  refine met_XJ (cw := cellsX g ad) (w := w) (cc := cX0_between) (lv := [(0, .ref (ad 99)), (1, .int a1), (2, .int a2), (3, .int a3)]) pnX0 _ (Nat.le_of_ble_eq_true rfl) rfl ?_
  intro p e s m args below meth c R Q A B hN hr hsz hA hmm hRm hQ hAe
  have hX : NXA sd A s := by rw [hAe, ← hsz]; exact hN
  unfold sX_between at ho
  refine j_aload_n B eX0_between_0 0 rfl ?_
  refine j_iload_n B eX0_between_1 1 rfl ?_
  refine j_callVi (As := [.int a1]) B hA (met_X0_isOar l D g ad sd w a1) (NXX_ok hX) pkX0_isOar q325 0 rfl rfl rfl rfl hRm ⟨Nat.le_of_ble_eq_true rfl, Nat.le_of_ble_eq_true rfl⟩ rfl rfl (Nat.le_of_ble_eq_true rfl) ⟨Nat.zero_le _, Nat.zero_le _⟩ eX0_between_2 ho (fun v1 ho => ?_)
  refine j_if_eq B eX0_between_5 ho (fun _ ho => ?_) (fun _ ho => ?_)
  · refine j_ldc2 B eX0_between_26 q415 ?_
    exact j_lretw B hr hQ eX0_between_29 ho
  · refine j_aload_n B eX0_between_8 0 rfl ?_
    refine j_iload_n B eX0_between_9 2 rfl ?_
    refine j_callVi (As := [.int a2]) B hA (met_X0_isOar l D g ad sd w a2) (NXX_ok hX) pkX0_isOar q325 0 rfl rfl rfl rfl hRm ⟨Nat.le_of_ble_eq_true rfl, Nat.le_of_ble_eq_true rfl⟩ rfl rfl (Nat.le_of_ble_eq_true rfl) ⟨Nat.zero_le _, Nat.zero_le _⟩ eX0_between_10 ho (fun v2 ho => ?_)
    refine j_if_eq B eX0_between_13 ho (fun _ ho => ?_) (fun _ ho => ?_)
    · refine j_ldc2 B eX0_between_26 q415 ?_
      exact j_lretw B hr hQ eX0_between_29 ho
    · refine j_iload_n B eX0_between_16 3 rfl ?_
      refine j_i2l B eX0_between_17 ?_
      refine j_lconst (v := 0) B eX0_between_18 rfl ?_
      refine j_lconst (v := 1) B eX0_between_19 rfl ?_
      refine j_callSi (As := [.long (Int32.toInt64 a3), .long (0 : Int64), .long (1 : Int64)]) B hA (met_X0_in l D _ _ _ (Int32.toInt64 a3) (0 : Int64) (1 : Int64)) NT_ok pkX0_in q224 rfl rfl hRm ⟨Nat.le_of_ble_eq_true rfl, Nat.le_of_ble_eq_true rfl⟩ rfl rfl (Nat.le_of_ble_eq_true rfl) ⟨Nat.zero_le _, Nat.zero_le _⟩ eX0_between_20 ho (fun v3 ho => ?_)
      refine j_if_ne B eX0_between_23 ho (fun _ ho => ?_) (fun _ ho => ?_)
      · refine j_aload_n B eX0_between_30 0 rfl ?_
        refine j_callVvw (As := []) B hA (met_X0_findParts l D g ad sd w) (NXX_ok hX) pkX0_findParts q404 0 rfl rfl rfl rfl hRm ⟨Nat.le_of_ble_eq_true rfl, Nat.le_of_ble_eq_true rfl⟩ rfl rfl (Nat.le_of_ble_eq_true rfl) ⟨Nat.zero_le _, Nat.zero_le _⟩ eX0_between_31 ho (fun w4 ho => ?_)
        refine j_aload_n B eX0_between_34 0 rfl ?_
        refine gfX_8 B eX0_between_35 ?_
        refine j_iload_n B eX0_between_38 1 rfl ?_
        refine ldX_8 B eX0_between_39 ho (fun v5 ho => ?_)
        refine j_aload_n B eX0_between_40 0 rfl ?_
        refine gfX_8 B eX0_between_41 ?_
        refine j_iload_n B eX0_between_44 2 rfl ?_
        refine ldX_8 B eX0_between_45 ho (fun v6 ho => ?_)
        refine j_icmp_ne B eX0_between_46 ho (fun _ ho => ?_) (fun _ ho => ?_)
        · refine j_ldc2 B eX0_between_62 q415 ?_
          exact j_lretw B hr hQ eX0_between_65 ho
        · refine j_aload_n B eX0_between_49 0 rfl ?_
          refine j_aload_n B eX0_between_50 0 rfl ?_
          refine gfX_8 B eX0_between_51 ?_
          refine j_iload_n B eX0_between_54 1 rfl ?_
          refine ldX_8 B eX0_between_55 ho (fun v7 ho => ?_)
          refine j_callVi (As := [.int v7]) B hA (met_X0_isBig l D g ad sd w4 v7) (NXX_ok hX) pkX0_isBig q416 0 rfl rfl rfl rfl hRm ⟨Nat.le_of_ble_eq_true rfl, Nat.le_of_ble_eq_true rfl⟩ rfl rfl (Nat.le_of_ble_eq_true rfl) ⟨Nat.zero_le _, Nat.zero_le _⟩ eX0_between_56 ho (fun v8 ho => ?_)
          refine j_if_eq B eX0_between_59 ho (fun _ ho => ?_) (fun _ ho => ?_)
          · refine j_aload_n B eX0_between_66 0 rfl ?_
            refine j_aload_n B eX0_between_67 0 rfl ?_
            refine gfX_8 B eX0_between_68 ?_
            refine j_iload_n B eX0_between_71 1 rfl ?_
            refine ldX_8 B eX0_between_72 ho (fun v9 ho => ?_)
            refine j_callVvw (As := [.int v9]) B hA (met_X0_layOut l D g ad sd w4 v9) (NXX_ok hX) pkX0_layOut q420 0 rfl rfl rfl rfl hRm ⟨Nat.le_of_ble_eq_true rfl, Nat.le_of_ble_eq_true rfl⟩ rfl rfl (Nat.le_of_ble_eq_true rfl) ⟨Nat.zero_le _, Nat.zero_le _⟩ eX0_between_73 ho (fun w10 ho => ?_)
            refine j_aload_n B eX0_between_76 0 rfl ?_
            refine j_callVvw (As := []) B hA (met_X0_solve l D g ad sd w10) (NXX_ok hX) pkX0_solve q431 0 rfl rfl rfl rfl hRm ⟨Nat.le_of_ble_eq_true rfl, Nat.le_of_ble_eq_true rfl⟩ rfl rfl (Nat.le_of_ble_eq_true rfl) ⟨Nat.zero_le _, Nat.zero_le _⟩ eX0_between_77 ho (fun w11 ho => ?_)
            refine j_aload_n B eX0_between_80 0 rfl ?_
            refine j_iload_n B eX0_between_81 1 rfl ?_
            refine j_callVl (As := [.int a1]) B hA (met_X0_strengthOf l D g ad sd w11 a1) (NXX_ok hX) pkX0_strengthOf q435 0 rfl rfl rfl rfl hRm ⟨Nat.le_of_ble_eq_true rfl, Nat.le_of_ble_eq_true rfl⟩ rfl rfl (Nat.le_of_ble_eq_true rfl) ⟨Nat.zero_le _, Nat.zero_le _⟩ eX0_between_82 ho (fun v12 ho => ?_)
            refine j_aload_n B eX0_between_85 0 rfl ?_
            refine j_iload_n B eX0_between_86 2 rfl ?_
            refine j_callVl (As := [.int a2]) B hA (met_X0_strengthOf l D g ad sd w11 a2) (NXX_ok hX) pkX0_strengthOf q435 0 rfl rfl rfl rfl hRm ⟨Nat.le_of_ble_eq_true rfl, Nat.le_of_ble_eq_true rfl⟩ rfl rfl (Nat.le_of_ble_eq_true rfl) ⟨Nat.zero_le _, Nat.zero_le _⟩ eX0_between_87 ho (fun v13 ho => ?_)
            refine j_lsubt B eX0_between_90 ?_
            refine j_aload_n B eX0_between_91 0 rfl ?_
            refine gfX_13 B eX0_between_92 ?_
            refine j_iload_n B eX0_between_95 3 rfl ?_
            refine j_callSl (As := [.long (v12 - v13), .long (w11.2.2 90 13), .int a3]) B hA (met_X0_told l D _ _ _ (v12 - v13) (w11.2.2 90 13) a3) NT_ok pkX0_told q439 rfl rfl hRm ⟨Nat.le_of_ble_eq_true rfl, Nat.le_of_ble_eq_true rfl⟩ rfl rfl (Nat.le_of_ble_eq_true rfl) ⟨Nat.zero_le _, Nat.zero_le _⟩ eX0_between_96 ho (fun v14 ho => ?_)
            exact j_lretw B hr hQ eX0_between_99 ho
          · refine j_ldc2 B eX0_between_62 q415 ?_
            exact j_lretw B hr hQ eX0_between_65 ho
      · refine j_ldc2 B eX0_between_26 q415 ?_
        exact j_lretw B hr hQ eX0_between_29 ho
def sX_misfit_L62 (a1 : Int32) (w8 : Wd) (J12 : Int64 → Option (Int64 × Wd)) : Int64 → Int32 → Option (Int64 × Wd) :=
  fx (fun _ _ => none) (fun self16 x14 x15 =>
    if (w8.2.1 90 10) ≤ x15 then (J12 x14) else (rd (inb x15 40) (w8.2.1 5 (Int32.toNatClampNeg x15)) fun v17 => rd (inb v17 16) (w8.2.1 8 (Int32.toNatClampNeg v17)) fun v18 => rd (inb a1 16) (w8.2.1 8 (Int32.toNatClampNeg a1)) fun v19 => if v18 = v19 then (rd (inb x15 40) (w8.2.1 5 (Int32.toNatClampNeg x15)) fun v20 => bd (sX_strengthOf w8 v20) fun v21 => rd (inb x15 40) (w8.2.1 6 (Int32.toNatClampNeg x15)) fun v22 => bd (sX_strengthOf w8 v22) fun v23 => rd (inb x15 40) (w8.2.1 7 (Int32.toNatClampNeg x15)) fun v24 => bd (sJ0_abs ((v21 - v23) - ((Int32.toInt64 v24) * (w8.2.2 90 13)))) fun v25 => nm (x14 + v25) fun x26 => nm (x15 + (1 : Int32)) fun x27 => self16 x26 x27) else (nm (x15 + (1 : Int32)) fun x28 => self16 x14 x28))) FU
def sX_misfit (w : Wd) (a1 : Int32) (a2 : Int32) : Option (Int64 × Wd) :=
  bd (sX_isOar w a1) fun v1 => if v1 = 0 then (some ((-9223372036854775808 : Int64), w)) else (bd (sX_in (Int32.toInt64 a2) (0 : Int64) (1 : Int64)) fun v2 => if v2 = 0 then (some ((-9223372036854775808 : Int64), w)) else (bd (sX_findParts w) fun w3 => rd (inb a1 16) (w3.2.1 8 (Int32.toNatClampNeg a1)) fun v4 => bd (sX_isBig w3 v4) fun v5 => if v5 = 0 then (rd (inb a1 16) (w3.2.1 8 (Int32.toNatClampNeg a1)) fun v6 => bd (sX_layOut w3 v6) fun w7 => bd (sX_solve w7) fun w8 => nm (0 : Int64) fun x9 => nm (0 : Int32) fun x10 => jn (fun x11 => bd (sX_told x11 (w8.2.2 90 13) a2) fun v13 => some (v13, w8)) fun J12 => sX_misfit_L62 a1 w8 J12 x9 x10) else (some ((-9223372036854775808 : Int64), w3))))
abbrev rmX0_misfit : Room := { frames := 3, cells := 0, slots := 0, locals := 76 }
theorem pkX0_misfit : PkV yX0_misfit RX0 cX0_misfit 6 (some .long) 2 := ⟨q453, q454, q57, q455, by decide +kernel⟩
set_option maxHeartbeats 4000000 in
theorem met_X0_misfit (l : Launch) (D : va_G) (g : Nat → ClassId) (ad sd : Nat → Nat) (w : Wd) (a1 : Int32) (a2 : Int32) (sz : Nat) (r : Int64) (w' : Wd) (ho : sX_misfit w a1 a2 = some (r, w')) : Met l yX0_misfit (ws_ yX0_misfit cX0_misfit 6 (some .long)) rmX0_misfit (va_Pc [.ref (ad 99), .int a1, .int a2] (MPre D vwCl (tysG g) (cellsX g ad w) (NXX sd (cellsX g ad w)) sz)) (QcL D vwCl (tysG g) (cellsX g ad w') r (va_A (cellsX g ad w) sz)) 0 0 (va_A (cellsX g ad w) sz) := by
  refine met_XJ (cw := cellsX g ad) (w := w) (cc := cX0_misfit) (lv := [(0, .ref (ad 99)), (1, .int a1), (2, .int a2)]) pnX0 _ (Nat.le_of_ble_eq_true rfl) rfl ?_
  intro p e s m args below meth c R Q A B hN hr hsz hA hmm hRm hQ hAe
  have hX : NXA sd A s := by rw [hAe, ← hsz]; exact hN
  unfold sX_misfit at ho
  refine j_aload_n B eX0_misfit_0 0 rfl ?_
  refine j_iload_n B eX0_misfit_1 1 rfl ?_
  refine j_callVi (As := [.int a1]) B hA (met_X0_isOar l D g ad sd w a1) (NXX_ok hX) pkX0_isOar q325 0 rfl rfl rfl rfl hRm ⟨Nat.le_of_ble_eq_true rfl, Nat.le_of_ble_eq_true rfl⟩ rfl rfl (Nat.le_of_ble_eq_true rfl) ⟨Nat.zero_le _, Nat.zero_le _⟩ eX0_misfit_2 ho (fun v1 ho => ?_)
  refine j_if_eq B eX0_misfit_5 ho (fun _ ho => ?_) (fun _ ho => ?_)
  · refine j_ldc2 B eX0_misfit_18 q415 ?_
    exact j_lretw B hr hQ eX0_misfit_21 ho
  · refine j_iload_n B eX0_misfit_8 2 rfl ?_
    refine j_i2l B eX0_misfit_9 ?_
    refine j_lconst (v := 0) B eX0_misfit_10 rfl ?_
    refine j_lconst (v := 1) B eX0_misfit_11 rfl ?_
    refine j_callSi (As := [.long (Int32.toInt64 a2), .long (0 : Int64), .long (1 : Int64)]) B hA (met_X0_in l D _ _ _ (Int32.toInt64 a2) (0 : Int64) (1 : Int64)) NT_ok pkX0_in q224 rfl rfl hRm ⟨Nat.le_of_ble_eq_true rfl, Nat.le_of_ble_eq_true rfl⟩ rfl rfl (Nat.le_of_ble_eq_true rfl) ⟨Nat.zero_le _, Nat.zero_le _⟩ eX0_misfit_12 ho (fun v2 ho => ?_)
    refine j_if_ne B eX0_misfit_15 ho (fun _ ho => ?_) (fun _ ho => ?_)
    · refine j_aload_n B eX0_misfit_22 0 rfl ?_
      refine j_callVvw (As := []) B hA (met_X0_findParts l D g ad sd w) (NXX_ok hX) pkX0_findParts q404 0 rfl rfl rfl rfl hRm ⟨Nat.le_of_ble_eq_true rfl, Nat.le_of_ble_eq_true rfl⟩ rfl rfl (Nat.le_of_ble_eq_true rfl) ⟨Nat.zero_le _, Nat.zero_le _⟩ eX0_misfit_23 ho (fun w3 ho => ?_)
      refine j_aload_n B eX0_misfit_26 0 rfl ?_
      refine j_aload_n B eX0_misfit_27 0 rfl ?_
      refine gfX_8 B eX0_misfit_28 ?_
      refine j_iload_n B eX0_misfit_31 1 rfl ?_
      refine ldX_8 B eX0_misfit_32 ho (fun v4 ho => ?_)
      refine j_callVi (As := [.int v4]) B hA (met_X0_isBig l D g ad sd w3 v4) (NXX_ok hX) pkX0_isBig q416 0 rfl rfl rfl rfl hRm ⟨Nat.le_of_ble_eq_true rfl, Nat.le_of_ble_eq_true rfl⟩ rfl rfl (Nat.le_of_ble_eq_true rfl) ⟨Nat.zero_le _, Nat.zero_le _⟩ eX0_misfit_33 ho (fun v5 ho => ?_)
      refine j_if_eq B eX0_misfit_36 ho (fun _ ho => ?_) (fun _ ho => ?_)
      · refine j_aload_n B eX0_misfit_43 0 rfl ?_
        refine j_aload_n B eX0_misfit_44 0 rfl ?_
        refine gfX_8 B eX0_misfit_45 ?_
        refine j_iload_n B eX0_misfit_48 1 rfl ?_
        refine ldX_8 B eX0_misfit_49 ho (fun v6 ho => ?_)
        refine j_callVvw (As := [.int v6]) B hA (met_X0_layOut l D g ad sd w3 v6) (NXX_ok hX) pkX0_layOut q420 0 rfl rfl rfl rfl hRm ⟨Nat.le_of_ble_eq_true rfl, Nat.le_of_ble_eq_true rfl⟩ rfl rfl (Nat.le_of_ble_eq_true rfl) ⟨Nat.zero_le _, Nat.zero_le _⟩ eX0_misfit_50 ho (fun w7 ho => ?_)
        refine j_aload_n B eX0_misfit_53 0 rfl ?_
        refine j_callVvw (As := []) B hA (met_X0_solve l D g ad sd w7) (NXX_ok hX) pkX0_solve q431 0 rfl rfl rfl rfl hRm ⟨Nat.le_of_ble_eq_true rfl, Nat.le_of_ble_eq_true rfl⟩ rfl rfl (Nat.le_of_ble_eq_true rfl) ⟨Nat.zero_le _, Nat.zero_le _⟩ eX0_misfit_54 ho (fun w8 ho => ?_)
        refine j_lconst (v := 0) B eX0_misfit_57 rfl ?_
        refine j_lstore_n (lv' := fun x9 => [(0, .ref (ad 99)), (1, .int a1), (2, .int a2), (3, .long x9)]) B eX0_misfit_58 [1, 2, 3, 0] (by decide) (fun _ => rfl) ho (fun x9 ho => ?_)
        refine j_const B eX0_misfit_59 ?_
        refine j_istore (lv' := fun x10 => [(0, .ref (ad 99)), (1, .int a1), (2, .int a2), (3, .long x9), (5, .int x10)]) B eX0_misfit_60 [1, 2, 3, 4, 0] (by decide) (fun _ => rfl) ho (fun x10 ho => ?_)
        refine jn1 (C := fun x11 => XJ p l e R s m args below meth c 0 0 Q A D vwCl (cellsX g ad) 6 w8 144 [(0, .ref (ad 99)), (2, .int a2), (3, .long x11)] []) ho (fun x11 ho => ?_) (fun J12 hJ12 ho => ?_)
        · refine j_lload_n B eX0_misfit_144 2 rfl ?_
          refine j_aload_n B eX0_misfit_145 0 rfl ?_
          refine gfX_13 B eX0_misfit_146 ?_
          refine j_iload_n B eX0_misfit_149 1 rfl ?_
          refine j_callSl (As := [.long x11, .long (w8.2.2 90 13), .int a2]) B hA (met_X0_told l D _ _ _ x11 (w8.2.2 90 13) a2) NT_ok pkX0_told q439 rfl rfl hRm ⟨Nat.le_of_ble_eq_true rfl, Nat.le_of_ble_eq_true rfl⟩ rfl rfl (Nat.le_of_ble_eq_true rfl) ⟨Nat.zero_le _, Nat.zero_le _⟩ eX0_misfit_150 ho (fun v13 ho => ?_)
          exact j_lretw B hr hQ eX0_misfit_153 ho
        · unfold sX_misfit_L62 at ho
          refine fx2 (C := fun x14 x15 => XJ p l e R s m args below meth c 0 0 Q A D vwCl (cellsX g ad) 6 w8 62 [(0, .ref (ad 99)), (1, .int a1), (2, .int a2), (3, .long x14), (5, .int x15)] []) (fun self16 hself16 x14 x15 ho => ?_) FU _ _ ho
          refine j_iload B eX0_misfit_62 4 rfl ?_
          refine j_aload_n B eX0_misfit_64 0 rfl ?_
          refine gfX_10 B eX0_misfit_65 ?_
          refine j_icmp_ge B eX0_misfit_68 ho (fun _ ho => ?_) (fun _ ho => ?_)
          · refine j_lsub (lv' := [(0, .ref (ad 99)), (2, .int a2), (3, .long x14)]) [0, 2, 3] rfl ?_
            exact hJ12 _ ho
          · refine j_aload_n B eX0_misfit_71 0 rfl ?_
            refine gfX_8 B eX0_misfit_72 ?_
            refine j_aload_n B eX0_misfit_75 0 rfl ?_
            refine gfX_5 B eX0_misfit_76 ?_
            refine j_iload B eX0_misfit_79 4 rfl ?_
            refine ldX_5 B eX0_misfit_81 ho (fun v17 ho => ?_)
            refine ldX_8 B eX0_misfit_82 ho (fun v18 ho => ?_)
            refine j_aload_n B eX0_misfit_83 0 rfl ?_
            refine gfX_8 B eX0_misfit_84 ?_
            refine j_iload_n B eX0_misfit_87 1 rfl ?_
            refine ldX_8 B eX0_misfit_88 ho (fun v19 ho => ?_)
            refine j_icmp_eq B eX0_misfit_89 ho (fun _ ho => ?_) (fun _ ho => ?_)
            · refine j_lload_n B eX0_misfit_95 3 rfl ?_
              refine j_aload_n B eX0_misfit_96 0 rfl ?_
              refine j_aload_n B eX0_misfit_97 0 rfl ?_
              refine gfX_5 B eX0_misfit_98 ?_
              refine j_iload B eX0_misfit_101 4 rfl ?_
              refine ldX_5 B eX0_misfit_103 ho (fun v20 ho => ?_)
              refine j_callVl (As := [.int v20]) B hA (met_X0_strengthOf l D g ad sd w8 v20) (NXX_ok hX) pkX0_strengthOf q435 0 rfl rfl rfl rfl hRm ⟨Nat.le_of_ble_eq_true rfl, Nat.le_of_ble_eq_true rfl⟩ rfl rfl (Nat.le_of_ble_eq_true rfl) ⟨Nat.zero_le _, Nat.zero_le _⟩ eX0_misfit_104 ho (fun v21 ho => ?_)
              refine j_aload_n B eX0_misfit_107 0 rfl ?_
              refine j_aload_n B eX0_misfit_108 0 rfl ?_
              refine gfX_6 B eX0_misfit_109 ?_
              refine j_iload B eX0_misfit_112 4 rfl ?_
              refine ldX_6 B eX0_misfit_114 ho (fun v22 ho => ?_)
              refine j_callVl (As := [.int v22]) B hA (met_X0_strengthOf l D g ad sd w8 v22) (NXX_ok hX) pkX0_strengthOf q435 0 rfl rfl rfl rfl hRm ⟨Nat.le_of_ble_eq_true rfl, Nat.le_of_ble_eq_true rfl⟩ rfl rfl (Nat.le_of_ble_eq_true rfl) ⟨Nat.zero_le _, Nat.zero_le _⟩ eX0_misfit_115 ho (fun v23 ho => ?_)
              refine j_lsubt B eX0_misfit_118 ?_
              refine j_aload_n B eX0_misfit_119 0 rfl ?_
              refine gfX_7 B eX0_misfit_120 ?_
              refine j_iload B eX0_misfit_123 4 rfl ?_
              refine ldX_7 B eX0_misfit_125 ho (fun v24 ho => ?_)
              refine j_i2l B eX0_misfit_126 ?_
              refine j_aload_n B eX0_misfit_127 0 rfl ?_
              refine gfX_13 B eX0_misfit_128 ?_
              refine j_lmul B eX0_misfit_131 ?_
              refine j_lsubt B eX0_misfit_132 ?_
              refine j_callSl (As := [.long ((v21 - v23) - ((Int32.toInt64 v24) * (w8.2.2 90 13)))]) B hA (met_J0_abs l D _ _ _ ((v21 - v23) - ((Int32.toInt64 v24) * (w8.2.2 90 13)))) NT_ok pkJ0_abs q445 rfl rfl hRm ⟨Nat.le_of_ble_eq_true rfl, Nat.le_of_ble_eq_true rfl⟩ rfl rfl (Nat.le_of_ble_eq_true rfl) ⟨Nat.zero_le _, Nat.zero_le _⟩ eX0_misfit_133 ho (fun v25 ho => ?_)
              refine j_ladd B eX0_misfit_136 ?_
              refine j_lstore_n (lv' := fun x26 => [(0, .ref (ad 99)), (1, .int a1), (2, .int a2), (3, .long x26), (5, .int x15)]) B eX0_misfit_137 [1, 2, 3, 0, 4] (by decide) (fun _ => rfl) ho (fun x26 ho => ?_)
              refine j_iinc (d := 1) (lv' := fun x27 => [(0, .ref (ad 99)), (1, .int a1), (2, .int a2), (3, .long x26), (5, .int x27)]) B eX0_misfit_138 4 rfl (by decide) [1, 2, 3, 4, 0] (by decide) (fun _ => rfl) ho (fun x27 ho => ?_)
              refine j_goto B eX0_misfit_141 ?_
              exact hself16 _ _ ho
            · refine j_goto B eX0_misfit_92 ?_
              refine j_iinc (d := 1) (lv' := fun x28 => [(0, .ref (ad 99)), (1, .int a1), (2, .int a2), (3, .long x14), (5, .int x28)]) B eX0_misfit_138 4 rfl (by decide) [1, 2, 3, 4, 0] (by decide) (fun _ => rfl) ho (fun x28 ho => ?_)
              refine j_goto B eX0_misfit_141 ?_
              exact hself16 _ _ ho
      · refine j_ldc2 B eX0_misfit_39 q415 ?_
        exact j_lretw B hr hQ eX0_misfit_42 ho
    · refine j_ldc2 B eX0_misfit_18 q415 ?_
      exact j_lretw B hr hQ eX0_misfit_21 ho
def sX_sure_L34 (w : Wd) (a1 : Int32) (a2 : Int32) (J8 : Int32 → Int32 → Option (Int32)) : Int32 → Int32 → Int32 → Option (Int32) :=
  fx (fun _ _ _ => none) (fun self13 x10 x11 x12 =>
    if (w.2.1 90 10) ≤ x12 then (J8 x10 x11) else (rd (inb x12 40) (w.2.1 5 (Int32.toNatClampNeg x12)) fun v14 => jn (fun z15 => nm z15 fun x17 => rd (inb x12 40) (w.2.1 5 (Int32.toNatClampNeg x12)) fun v18 => jn (fun z19 => nm z19 fun x21 => jn (fun z22 => nm z22 fun x24 => jn (fun x25 => if 0 ≤ x24 then (nm (x12 + (1 : Int32)) fun x27 => self13 x25 x11 x27) else (nm (x11 + (1 : Int32)) fun x28 => nm (x12 + (1 : Int32)) fun x29 => self13 x25 x28 x29)) fun J26 => if x24 ≤ 0 then (J26 x10) else (nm (x10 + (1 : Int32)) fun x30 => J26 x30)) fun J23 => if x17 = 0 then (if x21 = 0 then (J23 (0 : Int32)) else (rd (inb x12 40) (w.2.1 7 (Int32.toNatClampNeg x12)) fun v31 => J23 (-v31))) else (rd (inb x12 40) (w.2.1 7 (Int32.toNatClampNeg x12)) fun v32 => J23 v32)) fun J20 => if v18 = a2 then (rd (inb x12 40) (w.2.1 6 (Int32.toNatClampNeg x12)) fun v33 => if v33 = a1 then (J20 (1 : Int32)) else (J20 (0 : Int32))) else (J20 (0 : Int32))) fun J16 => if v14 = a1 then (rd (inb x12 40) (w.2.1 6 (Int32.toNatClampNeg x12)) fun v34 => if v34 = a2 then (J16 (1 : Int32)) else (J16 (0 : Int32))) else (J16 (0 : Int32)))) FU
def sX_sure (w : Wd) (a1 : Int32) (a2 : Int32) : Option (Int32) :=
  bd (sX_isOar w a1) fun v1 => if v1 = 0 then (some (-1 : Int32)) else (bd (sX_isOar w a2) fun v2 => if v2 = 0 then (some (-1 : Int32)) else (if a1 = a2 then (some (-2 : Int32)) else (nm (0 : Int32) fun x3 => nm (0 : Int32) fun x4 => nm (0 : Int32) fun x5 => jn (fun x6 x7 => jn (if x7 ≤ 0 then (some (0 : Int32)) else (if x6 = 0 then (some (2 : Int32)) else (some (0 : Int32)))) fun J9 => if x6 ≤ 0 then (J9) else (if x7 = 0 then (some (1 : Int32)) else (J9))) fun J8 => sX_sure_L34 w a1 a2 J8 x3 x4 x5)))
abbrev rmX0_sure : Room := { frames := 2, cells := 0, slots := 0, locals := 46 }
theorem pkX0_sure : PkV yX0_sure RX0 cX0_sure 9 (some .int) 2 := ⟨q457, q458, q57, q459, by decide +kernel⟩
set_option maxHeartbeats 4000000 in
theorem met_X0_sure (l : Launch) (D : va_G) (g : Nat → ClassId) (ad sd : Nat → Nat) (w : Wd) (a1 : Int32) (a2 : Int32) (sz : Nat) (r : Int32) (ho : sX_sure w a1 a2 = some r) : Met l yX0_sure (ws_ yX0_sure cX0_sure 9 (some .int)) rmX0_sure (va_Pc [.ref (ad 99), .int a1, .int a2] (MPre D vwCl (tysG g) (cellsX g ad w) (NXX sd (cellsX g ad w)) sz)) (QcI D vwCl (tysG g) (cellsX g ad w) r (va_A (cellsX g ad w) sz)) 0 0 (va_A (cellsX g ad w) sz) := by
  refine met_XJ (cw := cellsX g ad) (w := w) (cc := cX0_sure) (lv := [(0, .ref (ad 99)), (1, .int a1), (2, .int a2)]) pnX0 _ (Nat.le_of_ble_eq_true rfl) rfl ?_
  intro p e s m args below meth c R Q A B hN hr hsz hA hmm hRm hQ hAe
  have hX : NXA sd A s := by rw [hAe, ← hsz]; exact hN
  unfold sX_sure at ho
  refine j_aload_n B eX0_sure_0 0 rfl ?_
  refine j_iload_n B eX0_sure_1 1 rfl ?_
  refine j_callVi (As := [.int a1]) B hA (met_X0_isOar l D g ad sd w a1) (NXX_ok hX) pkX0_isOar q325 0 rfl rfl rfl rfl hRm ⟨Nat.le_of_ble_eq_true rfl, Nat.le_of_ble_eq_true rfl⟩ rfl rfl (Nat.le_of_ble_eq_true rfl) ⟨Nat.zero_le _, Nat.zero_le _⟩ eX0_sure_2 ho (fun v1 ho => ?_)
  refine j_if_eq B eX0_sure_5 ho (fun _ ho => ?_) (fun _ ho => ?_)
  · refine j_const B eX0_sure_16 ?_
    exact j_iret B hr hQ eX0_sure_17 ho
  · refine j_aload_n B eX0_sure_8 0 rfl ?_
    refine j_iload_n B eX0_sure_9 2 rfl ?_
    refine j_callVi (As := [.int a2]) B hA (met_X0_isOar l D g ad sd w a2) (NXX_ok hX) pkX0_isOar q325 0 rfl rfl rfl rfl hRm ⟨Nat.le_of_ble_eq_true rfl, Nat.le_of_ble_eq_true rfl⟩ rfl rfl (Nat.le_of_ble_eq_true rfl) ⟨Nat.zero_le _, Nat.zero_le _⟩ eX0_sure_10 ho (fun v2 ho => ?_)
    refine j_if_ne B eX0_sure_13 ho (fun _ ho => ?_) (fun _ ho => ?_)
    · refine j_iload_n B eX0_sure_18 1 rfl ?_
      refine j_iload_n B eX0_sure_19 2 rfl ?_
      refine j_icmp_ne B eX0_sure_20 ho (fun _ ho => ?_) (fun _ ho => ?_)
      · refine j_const B eX0_sure_26 ?_
        refine j_istore_n (lv' := fun x3 => [(0, .ref (ad 99)), (1, .int a1), (2, .int a2), (3, .int x3)]) B eX0_sure_27 [1, 2, 3, 0] (by decide) (fun _ => rfl) ho (fun x3 ho => ?_)
        refine j_const B eX0_sure_28 ?_
        refine j_istore (lv' := fun x4 => [(0, .ref (ad 99)), (1, .int a1), (2, .int a2), (3, .int x3), (4, .int x4)]) B eX0_sure_29 [1, 2, 3, 4, 0] (by decide) (fun _ => rfl) ho (fun x4 ho => ?_)
        refine j_const B eX0_sure_31 ?_
        refine j_istore (lv' := fun x5 => [(0, .ref (ad 99)), (1, .int a1), (2, .int a2), (3, .int x3), (4, .int x4), (5, .int x5)]) B eX0_sure_32 [1, 2, 3, 4, 5, 0] (by decide) (fun _ => rfl) ho (fun x5 ho => ?_)
        refine jn2 (C := fun x6 x7 => XJ p l e R s m args below meth c 0 0 Q A D vwCl (cellsX g ad) 9 w 157 [(3, .int x6), (4, .int x7)] []) ho (fun x6 x7 ho => ?_) (fun J8 hJ8 ho => ?_)
        · refine j_iload_n B eX0_sure_157 0 rfl ?_
          refine jn0 (C := XJ p l e R s m args below meth c 0 0 Q A D vwCl (cellsX g ad) 9 w 170 [(3, .int x6), (4, .int x7)] []) ho (fun ho => ?_) (fun J9 hJ9 ho => ?_)
          · refine j_iload B eX0_sure_170 1 rfl ?_
            refine j_if_le B eX0_sure_172 ho (fun _ ho => ?_) (fun _ ho => ?_)
            · refine j_const B eX0_sure_183 ?_
              exact j_iret B hr hQ eX0_sure_184 ho
            · refine j_iload_n B eX0_sure_175 0 rfl ?_
              refine j_if_ne B eX0_sure_176 ho (fun _ ho => ?_) (fun _ ho => ?_)
              · refine j_const B eX0_sure_183 ?_
                exact j_iret B hr hQ eX0_sure_184 ho
              · refine j_const B eX0_sure_179 ?_
                refine j_goto B eX0_sure_180 ?_
                exact j_iret B hr hQ eX0_sure_184 ho
          · refine j_if_le B eX0_sure_158 ho (fun _ ho => ?_) (fun _ ho => ?_)
            · exact hJ9 ho
            · refine j_iload B eX0_sure_161 1 rfl ?_
              refine j_if_ne B eX0_sure_163 ho (fun _ ho => ?_) (fun _ ho => ?_)
              · exact hJ9 ho
              · refine j_const B eX0_sure_166 ?_
                refine j_goto B eX0_sure_167 ?_
                exact j_iret B hr hQ eX0_sure_184 ho
        · unfold sX_sure_L34 at ho
          refine fx3 (C := fun x10 x11 x12 => XJ p l e R s m args below meth c 0 0 Q A D vwCl (cellsX g ad) 9 w 34 [(0, .ref (ad 99)), (1, .int a1), (2, .int a2), (3, .int x10), (4, .int x11), (5, .int x12)] []) (fun self13 hself13 x10 x11 x12 ho => ?_) FU _ _ _ ho
          refine j_iload B eX0_sure_34 5 rfl ?_
          refine j_aload_n B eX0_sure_36 0 rfl ?_
          refine gfX_10 B eX0_sure_37 ?_
          refine j_icmp_ge B eX0_sure_40 ho (fun _ ho => ?_) (fun _ ho => ?_)
          · refine j_lsub (lv' := [(3, .int x10), (4, .int x11)]) [3, 4] rfl ?_
            exact hJ8 _ _ ho
          · refine j_aload_n B eX0_sure_43 0 rfl ?_
            refine gfX_5 B eX0_sure_44 ?_
            refine j_iload B eX0_sure_47 5 rfl ?_
            refine ldX_5 B eX0_sure_49 ho (fun v14 ho => ?_)
            refine j_iload_n B eX0_sure_50 1 rfl ?_
            refine jn1 (C := fun z15 => XJ p l e R s m args below meth c 0 0 Q A D vwCl (cellsX g ad) 9 w 70 [(0, .ref (ad 99)), (1, .int a1), (2, .int a2), (3, .int x10), (4, .int x11), (5, .int x12)] [.int z15]) ho (fun z15 ho => ?_) (fun J16 hJ16 ho => ?_)
            · refine j_istore (lv' := fun x17 => [(0, .ref (ad 99)), (1, .int a1), (2, .int a2), (3, .int x10), (4, .int x11), (5, .int x12), (6, .int x17)]) B eX0_sure_70 [1, 2, 3, 4, 5, 6, 0] (by decide) (fun _ => rfl) ho (fun x17 ho => ?_)
              refine j_aload_n B eX0_sure_72 0 rfl ?_
              refine gfX_5 B eX0_sure_73 ?_
              refine j_iload B eX0_sure_76 5 rfl ?_
              refine ldX_5 B eX0_sure_78 ho (fun v18 ho => ?_)
              refine j_iload_n B eX0_sure_79 2 rfl ?_
              refine jn1 (C := fun z19 => XJ p l e R s m args below meth c 0 0 Q A D vwCl (cellsX g ad) 9 w 99 [(0, .ref (ad 99)), (1, .int a1), (2, .int a2), (3, .int x10), (4, .int x11), (5, .int x12), (6, .int x17)] [.int z19]) ho (fun z19 ho => ?_) (fun J20 hJ20 ho => ?_)
              · refine j_istore (lv' := fun x21 => [(0, .ref (ad 99)), (1, .int a1), (2, .int a2), (3, .int x10), (4, .int x11), (5, .int x12), (6, .int x17), (7, .int x21)]) B eX0_sure_99 [1, 2, 3, 4, 5, 6, 7, 0] (by decide) (fun _ => rfl) ho (fun x21 ho => ?_)
                refine j_iload B eX0_sure_101 6 rfl ?_
                refine jn1 (C := fun z22 => XJ p l e R s m args below meth c 0 0 Q A D vwCl (cellsX g ad) 9 w 133 [(0, .ref (ad 99)), (1, .int a1), (2, .int a2), (3, .int x10), (4, .int x11), (5, .int x12)] [.int z22]) ho (fun z22 ho => ?_) (fun J23 hJ23 ho => ?_)
                · refine j_istore (lv' := fun x24 => [(0, .ref (ad 99)), (1, .int a1), (2, .int a2), (3, .int x10), (4, .int x11), (5, .int x12), (8, .int x24)]) B eX0_sure_133 [1, 2, 3, 4, 5, 6, 0] (by decide) (fun _ => rfl) ho (fun x24 ho => ?_)
                  refine j_iload B eX0_sure_135 6 rfl ?_
                  refine jn1 (C := fun x25 => XJ p l e R s m args below meth c 0 0 Q A D vwCl (cellsX g ad) 9 w 143 [(0, .ref (ad 99)), (1, .int a1), (2, .int a2), (3, .int x25), (4, .int x11), (5, .int x12), (8, .int x24)] []) ho (fun x25 ho => ?_) (fun J26 hJ26 ho => ?_)
                  · refine j_iload B eX0_sure_143 6 rfl ?_
                    refine j_if_ge B eX0_sure_145 ho (fun _ ho => ?_) (fun _ ho => ?_)
                    · refine j_iinc (d := 1) (lv' := fun x27 => [(0, .ref (ad 99)), (1, .int a1), (2, .int a2), (3, .int x25), (4, .int x11), (5, .int x27)]) B eX0_sure_151 5 rfl (by decide) [1, 2, 3, 4, 5, 0] (by decide) (fun _ => rfl) ho (fun x27 ho => ?_)
                      refine j_goto B eX0_sure_154 ?_
                      exact hself13 _ _ _ ho
                    · refine j_iinc (d := 1) (lv' := fun x28 => [(0, .ref (ad 99)), (1, .int a1), (2, .int a2), (3, .int x25), (4, .int x28), (5, .int x12)]) B eX0_sure_148 4 rfl (by decide) [1, 2, 3, 4, 0, 5] (by decide) (fun _ => rfl) ho (fun x28 ho => ?_)
                      refine j_iinc (d := 1) (lv' := fun x29 => [(0, .ref (ad 99)), (1, .int a1), (2, .int a2), (3, .int x25), (4, .int x28), (5, .int x29)]) B eX0_sure_151 5 rfl (by decide) [1, 2, 3, 4, 5, 0] (by decide) (fun _ => rfl) ho (fun x29 ho => ?_)
                      refine j_goto B eX0_sure_154 ?_
                      exact hself13 _ _ _ ho
                  · refine j_if_le B eX0_sure_137 ho (fun _ ho => ?_) (fun _ ho => ?_)
                    · exact hJ26 _ ho
                    · refine j_iinc (d := 1) (lv' := fun x30 => [(0, .ref (ad 99)), (1, .int a1), (2, .int a2), (3, .int x30), (4, .int x11), (5, .int x12), (8, .int x24)]) B eX0_sure_140 3 rfl (by decide) [1, 2, 3, 0, 4, 5, 6] (by decide) (fun _ => rfl) ho (fun x30 ho => ?_)
                      exact hJ26 _ ho
                · refine j_if_eq B eX0_sure_103 ho (fun _ ho => ?_) (fun _ ho => ?_)
                  · refine j_iload B eX0_sure_116 7 rfl ?_
                    refine j_if_eq B eX0_sure_118 ho (fun _ ho => ?_) (fun _ ho => ?_)
                    · refine j_const B eX0_sure_132 ?_
                      refine j_lsub (lv' := [(0, .ref (ad 99)), (1, .int a1), (2, .int a2), (3, .int x10), (4, .int x11), (5, .int x12)]) [0, 1, 2, 3, 4, 5] rfl ?_
                      exact hJ23 _ ho
                    · refine j_aload_n B eX0_sure_121 0 rfl ?_
                      refine gfX_7 B eX0_sure_122 ?_
                      refine j_iload B eX0_sure_125 5 rfl ?_
                      refine ldX_7 B eX0_sure_127 ho (fun v31 ho => ?_)
                      refine j_ineg B eX0_sure_128 ?_
                      refine j_goto B eX0_sure_129 ?_
                      refine j_lsub (lv' := [(0, .ref (ad 99)), (1, .int a1), (2, .int a2), (3, .int x10), (4, .int x11), (5, .int x12)]) [0, 1, 2, 3, 4, 5] rfl ?_
                      exact hJ23 _ ho
                  · refine j_aload_n B eX0_sure_106 0 rfl ?_
                    refine gfX_7 B eX0_sure_107 ?_
                    refine j_iload B eX0_sure_110 5 rfl ?_
                    refine ldX_7 B eX0_sure_112 ho (fun v32 ho => ?_)
                    refine j_goto B eX0_sure_113 ?_
                    refine j_lsub (lv' := [(0, .ref (ad 99)), (1, .int a1), (2, .int a2), (3, .int x10), (4, .int x11), (5, .int x12)]) [0, 1, 2, 3, 4, 5] rfl ?_
                    exact hJ23 _ ho
              · refine j_icmp_ne B eX0_sure_80 ho (fun _ ho => ?_) (fun _ ho => ?_)
                · refine j_const B eX0_sure_98 ?_
                  exact hJ20 _ ho
                · refine j_aload_n B eX0_sure_83 0 rfl ?_
                  refine gfX_6 B eX0_sure_84 ?_
                  refine j_iload B eX0_sure_87 5 rfl ?_
                  refine ldX_6 B eX0_sure_89 ho (fun v33 ho => ?_)
                  refine j_iload_n B eX0_sure_90 1 rfl ?_
                  refine j_icmp_ne B eX0_sure_91 ho (fun _ ho => ?_) (fun _ ho => ?_)
                  · refine j_const B eX0_sure_98 ?_
                    exact hJ20 _ ho
                  · refine j_const B eX0_sure_94 ?_
                    refine j_goto B eX0_sure_95 ?_
                    exact hJ20 _ ho
            · refine j_icmp_ne B eX0_sure_51 ho (fun _ ho => ?_) (fun _ ho => ?_)
              · refine j_const B eX0_sure_69 ?_
                exact hJ16 _ ho
              · refine j_aload_n B eX0_sure_54 0 rfl ?_
                refine gfX_6 B eX0_sure_55 ?_
                refine j_iload B eX0_sure_58 5 rfl ?_
                refine ldX_6 B eX0_sure_60 ho (fun v34 ho => ?_)
                refine j_iload_n B eX0_sure_61 2 rfl ?_
                refine j_icmp_ne B eX0_sure_62 ho (fun _ ho => ?_) (fun _ ho => ?_)
                · refine j_const B eX0_sure_69 ?_
                  exact hJ16 _ ho
                · refine j_const B eX0_sure_65 ?_
                  refine j_goto B eX0_sure_66 ?_
                  exact hJ16 _ ho
      · refine j_const B eX0_sure_23 ?_
        exact j_iret B hr hQ eX0_sure_25 ho
    · refine j_const B eX0_sure_16 ?_
      exact j_iret B hr hQ eX0_sure_17 ho
def sX_mayCome_L38 (w : Wd) (a1 : Nat) (a2 : Int32) : Int32 → Option (Int32) :=
  fx (fun _ => none) (fun self7 x6 =>
    if (w.2.1 90 3) ≤ x6 then (some (1 : Int32)) else (rd (inb x6 8 && decide (Int32.toNatClampNeg x6 < w.1 3)) (Int32.toNatClampNeg x6) fun k8 => gd (decide (k8 < w.1 0) && decide (a1 < w.1 0)) (if k8 = a1 then (nm (x6 + (1 : Int32)) fun x9 => self7 x9) else (rd (inb x6 8 && decide (Int32.toNatClampNeg x6 < w.1 3)) (Int32.toNatClampNeg x6) fun k10 => gd (decide (k10 < w.1 0)) (bd (sB_place w k10 a2) fun v11 => if v11 = (-1 : Int32) then (nm (x6 + (1 : Int32)) fun x12 => self7 x12) else (some (0 : Int32))))))) FU
def sX_mayCome (w : Wd) (a1 : Nat) (a2 : Int32) : Option (Int32) :=
  rd (inb a2 16 && decide (Int32.toNatClampNeg a2 < w.1 4)) (Int32.toNatClampNeg a2) fun k1 => gd (oOk w k1) (bd (sO_mayBeOut w k1 (w.2.1 90 15)) fun v2 => if v2 = 0 then (some (0 : Int32)) else (gd (decide (a1 < w.1 0)) (bd (sB_hasCox w a1) fun v3 => jn (nm (0 : Int32) fun x5 => sX_mayCome_L38 w a1 a2 x5) fun J4 => if v3 = 0 then (J4) else (gd (decide (a1 < w.1 0)) (rd (decide (a1 < w.1 0) && inb (8 : Int32) 9) (w.2.1 (101 + 10 * a1) (Int32.toNatClampNeg (8 : Int32))) fun v13 => if v13 = a2 then (some (0 : Int32)) else (J4))))))
abbrev rmX0_mayCome : Room := { frames := 2, cells := 0, slots := 0, locals := 42 }
theorem pkX0_mayCome : PkV yX0_mayCome RX0 cX0_mayCome 4 (some .boolean) 2 := ⟨q472, qs12, q57, q473, by decide +kernel⟩
set_option maxHeartbeats 4000000 in
theorem met_X0_mayCome (l : Launch) (D : va_G) (g : Nat → ClassId) (ad sd : Nat → Nat) (w : Wd) (a1 : Nat) (a2 : Int32) (sz : Nat) (r : Int32) (ho : sX_mayCome w a1 a2 = some r) : Met l yX0_mayCome (ws_ yX0_mayCome cX0_mayCome 4 (some .boolean)) rmX0_mayCome (va_Pc [.ref (ad 99), .ref (ad (100 + 10 * a1)), .int a2] (MPre D vwCl (tysG g) (cellsX g ad w) (NXX sd (cellsX g ad w)) sz)) (QcI D vwCl (tysG g) (cellsX g ad w) r (va_A (cellsX g ad w) sz)) 0 0 (va_A (cellsX g ad w) sz) := by
  refine met_XJ (cw := cellsX g ad) (w := w) (cc := cX0_mayCome) (lv := [(0, .ref (ad 99)), (1, .ref (ad (100 + 10 * a1))), (2, .int a2)]) pnX0 _ (Nat.le_of_ble_eq_true rfl) rfl ?_
  intro p e s m args below meth c R Q A B hN hr hsz hA hmm hRm hQ hAe
  have hX : NXA sd A s := by rw [hAe, ← hsz]; exact hN
  unfold sX_mayCome at ho
  refine j_aload_n B eX0_mayCome_0 0 rfl ?_
  refine gfX_0 B eX0_mayCome_1 ?_
  refine j_iload_n B eX0_mayCome_4 2 rfl ?_
  refine alX_0 B eX0_mayCome_5 ho (fun k1 ho => ?_)
  refine j_aload_n B eX0_mayCome_6 0 rfl ?_
  refine gfX_15 B eX0_mayCome_7 ?_
  refine cO_mayBeOut B hA hX hRm ⟨Nat.le_of_ble_eq_true rfl, Nat.le_of_ble_eq_true rfl⟩ (Nat.le_of_ble_eq_true rfl) ⟨Nat.zero_le _, Nat.zero_le _⟩ eX0_mayCome_10 ho (fun v2 ho => ?_)
  refine j_if_eq B eX0_mayCome_13 ho (fun _ ho => ?_) (fun _ ho => ?_)
  · refine j_const B eX0_mayCome_34 ?_
    exact j_zret B hr rfl hQ eX0_mayCome_35 ho
  · refine j_aload_n B eX0_mayCome_16 1 rfl ?_
    obtain ⟨hg, ho⟩ := gd_e ho
    refine j_callVi (As := []) B hA (met_X7_hasCox l D g ad sd w a1) (NXX_ok hX) pkX7_hasCox q345 _ (at_boat (of_decide_eq_true hg)) rfl rfl rfl hRm ⟨Nat.le_of_ble_eq_true rfl, Nat.le_of_ble_eq_true rfl⟩ rfl rfl (Nat.le_of_ble_eq_true rfl) ⟨Nat.zero_le _, Nat.zero_le _⟩ eX0_mayCome_17 ho (fun v3 ho => ?_)
    refine jn0 (C := XJ p l e R s m args below meth c 0 0 Q A D vwCl (cellsX g ad) 4 w 36 [(0, .ref (ad 99)), (1, .ref (ad (100 + 10 * a1))), (2, .int a2)] []) ho (fun ho => ?_) (fun J4 hJ4 ho => ?_)
    · refine j_const B eX0_mayCome_36 ?_
      refine j_istore_n (lv' := fun x5 => [(0, .ref (ad 99)), (1, .ref (ad (100 + 10 * a1))), (2, .int a2), (3, .int x5)]) B eX0_mayCome_37 [1, 2, 3, 0] (by decide) (fun _ => rfl) ho (fun x5 ho => ?_)
      unfold sX_mayCome_L38 at ho
      refine fx1 (C := fun x6 => XJ p l e R s m args below meth c 0 0 Q A D vwCl (cellsX g ad) 4 w 38 [(0, .ref (ad 99)), (1, .ref (ad (100 + 10 * a1))), (2, .int a2), (3, .int x6)] []) (fun self7 hself7 x6 ho => ?_) FU _ ho
      refine j_iload_n B eX0_mayCome_38 3 rfl ?_
      refine j_aload_n B eX0_mayCome_39 0 rfl ?_
      refine gfX_3 B eX0_mayCome_40 ?_
      refine j_icmp_ge B eX0_mayCome_43 ho (fun _ ho => ?_) (fun _ ho => ?_)
      · refine j_const B eX0_mayCome_78 ?_
        exact j_zret B hr rfl hQ eX0_mayCome_79 ho
      · refine j_aload_n B eX0_mayCome_46 0 rfl ?_
        refine gfX_1 B eX0_mayCome_47 ?_
        refine j_iload_n B eX0_mayCome_50 3 rfl ?_
        refine alX_1 B eX0_mayCome_51 ho (fun k8 ho => ?_)
        refine j_aload_n B eX0_mayCome_52 1 rfl ?_
        refine j_acmpB_eq B eX0_mayCome_53 ho (fun _ ho => ?_) (fun _ ho => ?_)
        · refine j_iinc (d := 1) (lv' := fun x9 => [(0, .ref (ad 99)), (1, .ref (ad (100 + 10 * a1))), (2, .int a2), (3, .int x9)]) B eX0_mayCome_72 3 rfl (by decide) [1, 2, 3, 0] (by decide) (fun _ => rfl) ho (fun x9 ho => ?_)
          refine j_goto B eX0_mayCome_75 ?_
          exact hself7 _ ho
        · refine j_aload_n B eX0_mayCome_56 0 rfl ?_
          refine gfX_1 B eX0_mayCome_57 ?_
          refine j_iload_n B eX0_mayCome_60 3 rfl ?_
          refine alX_1 B eX0_mayCome_61 ho (fun k10 ho => ?_)
          refine j_iload_n B eX0_mayCome_62 2 rfl ?_
          obtain ⟨hg, ho⟩ := gd_e ho
          refine j_callVi (As := [.int a2]) B hA (met_X7_place l D g ad sd w k10 a2) (NXX_ok hX) pkX7_place q361 _ (at_boat (of_decide_eq_true hg)) rfl rfl rfl hRm ⟨Nat.le_of_ble_eq_true rfl, Nat.le_of_ble_eq_true rfl⟩ rfl rfl (Nat.le_of_ble_eq_true rfl) ⟨Nat.zero_le _, Nat.zero_le _⟩ eX0_mayCome_63 ho (fun v11 ho => ?_)
          refine j_const B eX0_mayCome_66 ?_
          refine j_icmp_eq B eX0_mayCome_67 ho (fun _ ho => ?_) (fun _ ho => ?_)
          · refine j_iinc (d := 1) (lv' := fun x12 => [(0, .ref (ad 99)), (1, .ref (ad (100 + 10 * a1))), (2, .int a2), (3, .int x12)]) B eX0_mayCome_72 3 rfl (by decide) [1, 2, 3, 0] (by decide) (fun _ => rfl) ho (fun x12 ho => ?_)
            refine j_goto B eX0_mayCome_75 ?_
            exact hself7 _ ho
          · refine j_const B eX0_mayCome_70 ?_
            exact j_zret B hr rfl hQ eX0_mayCome_71 ho
    · refine j_if_eq B eX0_mayCome_20 ho (fun _ ho => ?_) (fun _ ho => ?_)
      · exact hJ4 ho
      · refine j_aload_n B eX0_mayCome_23 1 rfl ?_
        refine gfBNr (j := 4) B hX (by decide) nq306 rfl eX0_mayCome_24 ho (fun ho => ?_)
        refine j_const B eX0_mayCome_27 ?_
        refine ldC B eX0_mayCome_29 ho (fun v13 ho => ?_)
        refine j_iload_n B eX0_mayCome_30 2 rfl ?_
        refine j_icmp_ne B eX0_mayCome_31 ho (fun _ ho => ?_) (fun _ ho => ?_)
        · exact hJ4 ho
        · refine j_const B eX0_mayCome_34 ?_
          exact j_zret B hr rfl hQ eX0_mayCome_35 ho
def sX_costOf (w : Wd) (a1 : Nat) (a2 : Int32) (a3 : Int32) : Option (Int32) :=
  gd (decide (a1 < w.1 0)) (rd (decide (a1 < w.1 0) && inb a2 9) (w.2.1 (101 + 10 * a1) (Int32.toNatClampNeg a2)) fun v1 => jn (fun z2 => nm z2 fun x4 => rd (inb a3 16 && decide (Int32.toNatClampNeg a3 < w.1 4)) (Int32.toNatClampNeg a3) fun k5 => gd (decide (a1 < w.1 0)) (bd (sB_side w a1 a2) fun v6 => gd (oOk w k5) (bd (sO_dislikes w k5 v6) fun v7 => some (x4 + v7)))) fun J3 => if v1 = a3 then (J3 (0 : Int32)) else (gd (decide (a1 < w.1 0)) (bd (sB_place w a1 a3) fun v8 => if v8 = (-1 : Int32) then (J3 (5 : Int32)) else (gd (decide (a1 < w.1 0)) (bd (sB_place w a1 a3) fun v9 => if (8 : Int32) ≤ v9 then (J3 (5 : Int32)) else (J3 (4 : Int32)))))))
abbrev rmX0_costOf : Room := { frames := 2, cells := 0, slots := 0, locals := 42 }
theorem pkX0_costOf : PkV yX0_costOf RX0 cX0_costOf 5 (some .int) 3 := ⟨q489, qs13, q57, q490, by decide +kernel⟩
set_option maxHeartbeats 4000000 in
theorem met_X0_costOf (l : Launch) (D : va_G) (g : Nat → ClassId) (ad sd : Nat → Nat) (w : Wd) (a1 : Nat) (a2 : Int32) (a3 : Int32) (sz : Nat) (r : Int32) (ho : sX_costOf w a1 a2 a3 = some r) : Met l yX0_costOf (ws_ yX0_costOf cX0_costOf 5 (some .int)) rmX0_costOf (va_Pc [.ref (ad 99), .ref (ad (100 + 10 * a1)), .int a2, .int a3] (MPre D vwCl (tysG g) (cellsX g ad w) (NXX sd (cellsX g ad w)) sz)) (QcI D vwCl (tysG g) (cellsX g ad w) r (va_A (cellsX g ad w) sz)) 0 0 (va_A (cellsX g ad w) sz) := by
  refine met_XJ (cw := cellsX g ad) (w := w) (cc := cX0_costOf) (lv := [(0, .ref (ad 99)), (1, .ref (ad (100 + 10 * a1))), (2, .int a2), (3, .int a3)]) pnX0 _ (Nat.le_of_ble_eq_true rfl) rfl ?_
  intro p e s m args below meth c R Q A B hN hr hsz hA hmm hRm hQ hAe
  have hX : NXA sd A s := by rw [hAe, ← hsz]; exact hN
  unfold sX_costOf at ho
  refine j_aload_n B eX0_costOf_0 1 rfl ?_
  refine gfBNr (j := 4) B hX (by decide) nq306 rfl eX0_costOf_1 ho (fun ho => ?_)
  refine j_iload_n B eX0_costOf_4 2 rfl ?_
  refine ldC B eX0_costOf_5 ho (fun v1 ho => ?_)
  refine j_iload_n B eX0_costOf_6 3 rfl ?_
  refine jn1 (C := fun z2 => XJ p l e R s m args below meth c 0 0 Q A D vwCl (cellsX g ad) 5 w 38 [(0, .ref (ad 99)), (1, .ref (ad (100 + 10 * a1))), (2, .int a2), (3, .int a3)] [.int z2]) ho (fun z2 ho => ?_) (fun J3 hJ3 ho => ?_)
  · refine j_istore (lv' := fun x4 => [(0, .ref (ad 99)), (1, .ref (ad (100 + 10 * a1))), (2, .int a2), (3, .int a3), (4, .int x4)]) B eX0_costOf_38 [1, 2, 3, 4, 0] (by decide) (fun _ => rfl) ho (fun x4 ho => ?_)
    refine j_iload B eX0_costOf_40 4 rfl ?_
    refine j_aload_n B eX0_costOf_42 0 rfl ?_
    refine gfX_0 B eX0_costOf_43 ?_
    refine j_iload_n B eX0_costOf_46 3 rfl ?_
    refine alX_0 B eX0_costOf_47 ho (fun k5 ho => ?_)
    refine j_aload_n B eX0_costOf_48 1 rfl ?_
    refine j_iload_n B eX0_costOf_49 2 rfl ?_
    obtain ⟨hg, ho⟩ := gd_e ho
    refine j_callVi (As := [.int a2]) B hA (met_X7_side l D g ad sd w a1 a2) (NXX_ok hX) pkX7_side q491 _ (at_boat (of_decide_eq_true hg)) rfl rfl rfl hRm ⟨Nat.le_of_ble_eq_true rfl, Nat.le_of_ble_eq_true rfl⟩ rfl rfl (Nat.le_of_ble_eq_true rfl) ⟨Nat.zero_le _, Nat.zero_le _⟩ eX0_costOf_50 ho (fun v6 ho => ?_)
    refine cO_dislikes B hA hX hRm ⟨Nat.le_of_ble_eq_true rfl, Nat.le_of_ble_eq_true rfl⟩ (Nat.le_of_ble_eq_true rfl) ⟨Nat.zero_le _, Nat.zero_le _⟩ eX0_costOf_53 ho (fun v7 ho => ?_)
    refine j_iadd B eX0_costOf_56 ?_
    exact j_iret B hr hQ eX0_costOf_57 ho
  · refine j_icmp_ne B eX0_costOf_7 ho (fun _ ho => ?_) (fun _ ho => ?_)
    · refine j_aload_n B eX0_costOf_14 1 rfl ?_
      refine j_iload_n B eX0_costOf_15 3 rfl ?_
      obtain ⟨hg, ho⟩ := gd_e ho
      refine j_callVi (As := [.int a3]) B hA (met_X7_place l D g ad sd w a1 a3) (NXX_ok hX) pkX7_place q361 _ (at_boat (of_decide_eq_true hg)) rfl rfl rfl hRm ⟨Nat.le_of_ble_eq_true rfl, Nat.le_of_ble_eq_true rfl⟩ rfl rfl (Nat.le_of_ble_eq_true rfl) ⟨Nat.zero_le _, Nat.zero_le _⟩ eX0_costOf_16 ho (fun v8 ho => ?_)
      refine j_const B eX0_costOf_19 ?_
      refine j_icmp_eq B eX0_costOf_20 ho (fun _ ho => ?_) (fun _ ho => ?_)
      · refine j_const B eX0_costOf_37 ?_
        exact hJ3 _ ho
      · refine j_aload_n B eX0_costOf_23 1 rfl ?_
        refine j_iload_n B eX0_costOf_24 3 rfl ?_
        obtain ⟨hg, ho⟩ := gd_e ho
        refine j_callVi (As := [.int a3]) B hA (met_X7_place l D g ad sd w a1 a3) (NXX_ok hX) pkX7_place q361 _ (at_boat (of_decide_eq_true hg)) rfl rfl rfl hRm ⟨Nat.le_of_ble_eq_true rfl, Nat.le_of_ble_eq_true rfl⟩ rfl rfl (Nat.le_of_ble_eq_true rfl) ⟨Nat.zero_le _, Nat.zero_le _⟩ eX0_costOf_25 ho (fun v9 ho => ?_)
        refine j_const B eX0_costOf_28 ?_
        refine j_icmp_ge B eX0_costOf_30 ho (fun _ ho => ?_) (fun _ ho => ?_)
        · refine j_const B eX0_costOf_37 ?_
          exact hJ3 _ ho
        · refine j_const B eX0_costOf_33 ?_
          refine j_goto B eX0_costOf_34 ?_
          exact hJ3 _ ho
    · refine j_const B eX0_costOf_10 ?_
      refine j_goto B eX0_costOf_11 ?_
      exact hJ3 _ ho
def sX_workOut_L89 (a1 : Nat) (x4 : Int32) (x8 : Int32) (self10 : Int32 → Wd → Option (Wd)) (x12 : Int32) : Int32 → Wd → Option (Wd) :=
  fx (fun _ _ => none) (fun self18 x16 w17 =>
    gd (decide (a1 < w17.1 0)) (bd (sB_seats w17 a1) fun v19 => if v19 ≤ x16 then (nm (x8 + (1 : Int32)) fun x20 => self10 x20 w17) else (bd (sX_mayCome w17 a1 x4) fun v21 => if v21 = 0 then (nm (x8 + (1 : Int32)) fun x22 => self10 x22 w17) else (if ((x8 >>> (x16 &&& 31)) &&& (1 : Int32)) = (1 : Int32) then (nm (x16 + (1 : Int32)) fun x29 => self18 x29 w17) else (rd (inb x12 4352) (w17.2.1 14 (Int32.toNatClampNeg x12)) fun v23 => bd (sX_costOf w17 a1 x16 x4) fun v24 => rd (inb ((x12 + (256 : Int32)) + ((1 : Int32) <<< (x16 &&& 31))) 4352) (w17.2.1 14 (Int32.toNatClampNeg ((x12 + (256 : Int32)) + ((1 : Int32) <<< (x16 &&& 31))))) fun v25 => bd (sJ0_min v23 (v24 + v25)) fun v26 => rd (inb x12 4352) (stG w17 14 (Int32.toNatClampNeg x12) v26) fun w27 => nm (x16 + (1 : Int32)) fun x28 => self18 x28 w27))))) FU
def sX_workOut_L19 (a1 : Nat) (x2 : Int32) (x4 : Int32) (self6 : Int32 → Wd → Option (Wd)) : Int32 → Wd → Option (Wd) :=
  fx (fun _ _ => none) (fun self10 x8 w9 =>
    if x2 ≤ x8 then (nm (x4 + (-1 : Int32)) fun x11 => self6 x11 w9) else (nm ((x4 * (256 : Int32)) + x8) fun x12 => if x4 = (w9.2.1 90 2) then (jn (fun z30 => rd (inb x12 4352) (stG w9 14 (Int32.toNatClampNeg x12) z30) fun w32 => nm (x8 + (1 : Int32)) fun x33 => self10 x33 w32) fun J31 => if x8 = (x2 - (1 : Int32)) then (J31 (0 : Int32)) else (J31 (1048576 : Int32))) else (rd (inb (x12 + (256 : Int32)) 4352) (w9.2.1 14 (Int32.toNatClampNeg (x12 + (256 : Int32)))) fun v13 => rd (inb x12 4352) (stG w9 14 (Int32.toNatClampNeg x12) v13) fun w14 => nm (0 : Int32) fun x15 => sX_workOut_L89 a1 x4 x8 self10 x12 x15 w14))) FU
def sX_workOut_L12 (a1 : Nat) (x2 : Int32) : Int32 → Wd → Option (Wd) :=
  fx (fun _ _ => none) (fun self6 x4 w5 =>
    if x4 < 0 then (some w5) else (nm (0 : Int32) fun x7 => sX_workOut_L19 a1 x2 x4 self6 x7 w5)) FU
def sX_workOut (w : Wd) (a1 : Nat) : Option (Wd) :=
  gd (decide (a1 < w.1 0)) (bd (sB_seats w a1) fun v1 => nm ((1 : Int32) <<< (v1 &&& 31)) fun x2 => nm (w.2.1 90 2) fun x3 => sX_workOut_L12 a1 x2 x3 w)
abbrev rmX0_workOut : Room := { frames := 3, cells := 0, slots := 0, locals := 66 }
theorem pkX0_workOut : PkV yX0_workOut RX0 cX0_workOut 7 (none) 1 := ⟨q467, qs11, q57, q468, by decide +kernel⟩
set_option maxHeartbeats 4000000 in
theorem met_X0_workOut (l : Launch) (D : va_G) (g : Nat → ClassId) (ad sd : Nat → Nat) (w : Wd) (a1 : Nat) (sz : Nat) (w' : Wd) (ho : sX_workOut w a1 = some w') : Met l yX0_workOut (ws_ yX0_workOut cX0_workOut 7 (none)) rmX0_workOut (va_Pc [.ref (ad 99), .ref (ad (100 + 10 * a1))] (MPre D vwCl (tysG g) (cellsX g ad w) (NXX sd (cellsX g ad w)) sz)) (QcV D vwCl (tysG g) (cellsX g ad w') (va_A (cellsX g ad w) sz)) 0 0 (va_A (cellsX g ad w) sz) := by
  refine met_XJ (cw := cellsX g ad) (w := w) (cc := cX0_workOut) (lv := [(0, .ref (ad 99)), (1, .ref (ad (100 + 10 * a1)))]) pnX0 _ (Nat.le_of_ble_eq_true rfl) rfl ?_
  intro p e s m args below meth c R Q A B hN hr hsz hA hmm hRm hQ hAe
  have hX : NXA sd A s := by rw [hAe, ← hsz]; exact hN
  unfold sX_workOut at ho
  refine j_const B eX0_workOut_0 ?_
  refine j_aload_n B eX0_workOut_1 1 rfl ?_
  obtain ⟨hg, ho⟩ := gd_e ho
  refine j_callVi (As := []) B hA (met_X7_seats l D g ad sd w a1) (NXX_ok hX) pkX7_seats q341 _ (at_boat (of_decide_eq_true hg)) rfl rfl rfl hRm ⟨Nat.le_of_ble_eq_true rfl, Nat.le_of_ble_eq_true rfl⟩ rfl rfl (Nat.le_of_ble_eq_true rfl) ⟨Nat.zero_le _, Nat.zero_le _⟩ eX0_workOut_2 ho (fun v1 ho => ?_)
  refine j_ishl B eX0_workOut_5 ?_
  refine j_istore_n (lv' := fun x2 => [(0, .ref (ad 99)), (1, .ref (ad (100 + 10 * a1))), (2, .int x2)]) B eX0_workOut_6 [1, 2, 0] (by decide) (fun _ => rfl) ho (fun x2 ho => ?_)
  refine j_aload_n B eX0_workOut_7 0 rfl ?_
  refine gfX_2 B eX0_workOut_8 ?_
  refine j_istore_n (lv' := fun x3 => [(0, .ref (ad 99)), (1, .ref (ad (100 + 10 * a1))), (2, .int x2), (3, .int x3)]) B eX0_workOut_11 [1, 2, 3, 0] (by decide) (fun _ => rfl) ho (fun x3 ho => ?_)
  unfold sX_workOut_L12 at ho
  refine fx2 (C := fun x4 w5 => XJ p l e R s m args below meth c 0 0 Q A D vwCl (cellsX g ad) 7 w5 12 [(0, .ref (ad 99)), (1, .ref (ad (100 + 10 * a1))), (2, .int x2), (3, .int x4)] []) (fun self6 hself6 x4 w5 ho => ?_) FU _ _ ho
  refine j_iload_n B eX0_workOut_12 3 rfl ?_
  refine j_if_lt B eX0_workOut_13 ho (fun _ ho => ?_) (fun _ ho => ?_)
  · exact j_vretw B hr hQ eX0_workOut_181 ho
  · refine j_const B eX0_workOut_16 ?_
    refine j_istore (lv' := fun x7 => [(0, .ref (ad 99)), (1, .ref (ad (100 + 10 * a1))), (2, .int x2), (3, .int x4), (4, .int x7)]) B eX0_workOut_17 [1, 2, 3, 4, 0] (by decide) (fun _ => rfl) ho (fun x7 ho => ?_)
    unfold sX_workOut_L19 at ho
    refine fx2 (C := fun x8 w9 => XJ p l e R s m args below meth c 0 0 Q A D vwCl (cellsX g ad) 7 w9 19 [(0, .ref (ad 99)), (1, .ref (ad (100 + 10 * a1))), (2, .int x2), (3, .int x4), (4, .int x8)] []) (fun self10 hself10 x8 w9 ho => ?_) FU _ _ ho
    refine j_iload B eX0_workOut_19 4 rfl ?_
    refine j_iload_n B eX0_workOut_21 2 rfl ?_
    refine j_icmp_ge B eX0_workOut_22 ho (fun _ ho => ?_) (fun _ ho => ?_)
    · refine j_iinc (d := -1) (lv' := fun x11 => [(0, .ref (ad 99)), (1, .ref (ad (100 + 10 * a1))), (2, .int x2), (3, .int x11)]) B eX0_workOut_175 3 rfl (by decide) [1, 2, 3, 0] (by decide) (fun _ => rfl) ho (fun x11 ho => ?_)
      refine j_goto B eX0_workOut_178 ?_
      exact hself6 _ _ ho
    · refine j_iload_n B eX0_workOut_25 3 rfl ?_
      refine j_const B eX0_workOut_26 ?_
      refine j_imul B eX0_workOut_29 ?_
      refine j_iload B eX0_workOut_30 4 rfl ?_
      refine j_iadd B eX0_workOut_32 ?_
      refine j_istore (lv' := fun x12 => [(0, .ref (ad 99)), (1, .ref (ad (100 + 10 * a1))), (2, .int x2), (3, .int x4), (4, .int x8), (5, .int x12)]) B eX0_workOut_33 [1, 2, 3, 4, 5, 0] (by decide) (fun _ => rfl) ho (fun x12 ho => ?_)
      refine j_iload_n B eX0_workOut_35 3 rfl ?_
      refine j_aload_n B eX0_workOut_36 0 rfl ?_
      refine gfX_2 B eX0_workOut_37 ?_
      refine j_icmp_ne B eX0_workOut_40 ho (fun _ ho => ?_) (fun _ ho => ?_)
      · refine j_aload_n B eX0_workOut_68 0 rfl ?_
        refine gfX_14 B eX0_workOut_69 ?_
        refine j_iload B eX0_workOut_72 5 rfl ?_
        refine j_aload_n B eX0_workOut_74 0 rfl ?_
        refine gfX_14 B eX0_workOut_75 ?_
        refine j_iload B eX0_workOut_78 5 rfl ?_
        refine j_const B eX0_workOut_80 ?_
        refine j_iadd B eX0_workOut_83 ?_
        refine ldX_14 B eX0_workOut_84 ho (fun v13 ho => ?_)
        refine stX_14 B eX0_workOut_85 ho (fun w14 ho => ?_)
        refine j_const B eX0_workOut_86 ?_
        refine j_istore (lv' := fun x15 => [(0, .ref (ad 99)), (1, .ref (ad (100 + 10 * a1))), (2, .int x2), (3, .int x4), (4, .int x8), (5, .int x12), (6, .int x15)]) B eX0_workOut_87 [1, 2, 3, 4, 5, 6, 0] (by decide) (fun _ => rfl) ho (fun x15 ho => ?_)
        unfold sX_workOut_L89 at ho
        refine fx2 (C := fun x16 w17 => XJ p l e R s m args below meth c 0 0 Q A D vwCl (cellsX g ad) 7 w17 89 [(0, .ref (ad 99)), (1, .ref (ad (100 + 10 * a1))), (2, .int x2), (3, .int x4), (4, .int x8), (5, .int x12), (6, .int x16)] []) (fun self18 hself18 x16 w17 ho => ?_) FU _ _ ho
        refine j_iload B eX0_workOut_89 6 rfl ?_
        refine j_aload_n B eX0_workOut_91 1 rfl ?_
        obtain ⟨hg, ho⟩ := gd_e ho
        refine j_callVi (As := []) B hA (met_X7_seats l D g ad sd w17 a1) (NXX_ok hX) pkX7_seats q341 _ (at_boat (of_decide_eq_true hg)) rfl rfl rfl hRm ⟨Nat.le_of_ble_eq_true rfl, Nat.le_of_ble_eq_true rfl⟩ rfl rfl (Nat.le_of_ble_eq_true rfl) ⟨Nat.zero_le _, Nat.zero_le _⟩ eX0_workOut_92 ho (fun v19 ho => ?_)
        refine j_icmp_ge B eX0_workOut_95 ho (fun _ ho => ?_) (fun _ ho => ?_)
        · refine j_iinc (d := 1) (lv' := fun x20 => [(0, .ref (ad 99)), (1, .ref (ad (100 + 10 * a1))), (2, .int x2), (3, .int x4), (4, .int x20)]) B eX0_workOut_169 4 rfl (by decide) [1, 2, 3, 4, 0] (by decide) (fun _ => rfl) ho (fun x20 ho => ?_)
          refine j_goto B eX0_workOut_172 ?_
          exact hself10 _ _ ho
        · refine j_aload_n B eX0_workOut_98 0 rfl ?_
          refine j_aload_n B eX0_workOut_99 1 rfl ?_
          refine j_iload_n B eX0_workOut_100 3 rfl ?_
          refine j_callVi (As := [.ref (ad (100 + 10 * a1)), .int x4]) B hA (met_X0_mayCome l D g ad sd w17 a1 x4) (NXX_ok hX) pkX0_mayCome q470 0 rfl rfl rfl rfl hRm ⟨Nat.le_of_ble_eq_true rfl, Nat.le_of_ble_eq_true rfl⟩ rfl rfl (Nat.le_of_ble_eq_true rfl) ⟨Nat.zero_le _, Nat.zero_le _⟩ eX0_workOut_101 ho (fun v21 ho => ?_)
          refine j_if_eq B eX0_workOut_104 ho (fun _ ho => ?_) (fun _ ho => ?_)
          · refine j_iinc (d := 1) (lv' := fun x22 => [(0, .ref (ad 99)), (1, .ref (ad (100 + 10 * a1))), (2, .int x2), (3, .int x4), (4, .int x22)]) B eX0_workOut_169 4 rfl (by decide) [1, 2, 3, 4, 0] (by decide) (fun _ => rfl) ho (fun x22 ho => ?_)
            refine j_goto B eX0_workOut_172 ?_
            exact hself10 _ _ ho
          · refine j_iload B eX0_workOut_107 4 rfl ?_
            refine j_iload B eX0_workOut_109 6 rfl ?_
            refine j_ishr B eX0_workOut_111 ?_
            refine j_const B eX0_workOut_112 ?_
            refine j_iand B eX0_workOut_113 ?_
            refine j_const B eX0_workOut_114 ?_
            refine j_icmp_ne B eX0_workOut_115 ho (fun _ ho => ?_) (fun _ ho => ?_)
            · refine j_aload_n B eX0_workOut_121 0 rfl ?_
              refine gfX_14 B eX0_workOut_122 ?_
              refine j_iload B eX0_workOut_125 5 rfl ?_
              refine j_aload_n B eX0_workOut_127 0 rfl ?_
              refine gfX_14 B eX0_workOut_128 ?_
              refine j_iload B eX0_workOut_131 5 rfl ?_
              refine ldX_14 B eX0_workOut_133 ho (fun v23 ho => ?_)
              refine j_aload_n B eX0_workOut_134 0 rfl ?_
              refine j_aload_n B eX0_workOut_135 1 rfl ?_
              refine j_iload B eX0_workOut_136 6 rfl ?_
              refine j_iload_n B eX0_workOut_138 3 rfl ?_
              refine j_callVi (As := [.ref (ad (100 + 10 * a1)), .int x16, .int x4]) B hA (met_X0_costOf l D g ad sd w17 a1 x16 x4) (NXX_ok hX) pkX0_costOf q487 0 rfl rfl rfl rfl hRm ⟨Nat.le_of_ble_eq_true rfl, Nat.le_of_ble_eq_true rfl⟩ rfl rfl (Nat.le_of_ble_eq_true rfl) ⟨Nat.zero_le _, Nat.zero_le _⟩ eX0_workOut_139 ho (fun v24 ho => ?_)
              refine j_aload_n B eX0_workOut_142 0 rfl ?_
              refine gfX_14 B eX0_workOut_143 ?_
              refine j_iload B eX0_workOut_146 5 rfl ?_
              refine j_const B eX0_workOut_148 ?_
              refine j_iadd B eX0_workOut_151 ?_
              refine j_const B eX0_workOut_152 ?_
              refine j_iload B eX0_workOut_153 6 rfl ?_
              refine j_ishl B eX0_workOut_155 ?_
              refine j_iadd B eX0_workOut_156 ?_
              refine ldX_14 B eX0_workOut_157 ho (fun v25 ho => ?_)
              refine j_iadd B eX0_workOut_158 ?_
              refine j_callSi (As := [.int v23, .int (v24 + v25)]) B hA (met_J0_min l D _ _ _ v23 (v24 + v25)) NT_ok pkJ0_min q408 rfl rfl hRm ⟨Nat.le_of_ble_eq_true rfl, Nat.le_of_ble_eq_true rfl⟩ rfl rfl (Nat.le_of_ble_eq_true rfl) ⟨Nat.zero_le _, Nat.zero_le _⟩ eX0_workOut_159 ho (fun v26 ho => ?_)
              refine stX_14 B eX0_workOut_162 ho (fun w27 ho => ?_)
              refine j_iinc (d := 1) (lv' := fun x28 => [(0, .ref (ad 99)), (1, .ref (ad (100 + 10 * a1))), (2, .int x2), (3, .int x4), (4, .int x8), (5, .int x12), (6, .int x28)]) B eX0_workOut_163 6 rfl (by decide) [1, 2, 3, 4, 5, 6, 0] (by decide) (fun _ => rfl) ho (fun x28 ho => ?_)
              refine j_goto B eX0_workOut_166 ?_
              exact hself18 _ _ ho
            · refine j_goto B eX0_workOut_118 ?_
              refine j_iinc (d := 1) (lv' := fun x29 => [(0, .ref (ad 99)), (1, .ref (ad (100 + 10 * a1))), (2, .int x2), (3, .int x4), (4, .int x8), (5, .int x12), (6, .int x29)]) B eX0_workOut_163 6 rfl (by decide) [1, 2, 3, 4, 5, 6, 0] (by decide) (fun _ => rfl) ho (fun x29 ho => ?_)
              refine j_goto B eX0_workOut_166 ?_
              exact hself18 _ _ ho
      · refine j_aload_n B eX0_workOut_43 0 rfl ?_
        refine gfX_14 B eX0_workOut_44 ?_
        refine j_iload B eX0_workOut_47 5 rfl ?_
        refine j_iload B eX0_workOut_49 4 rfl ?_
        refine j_iload_n B eX0_workOut_51 2 rfl ?_
        refine j_const B eX0_workOut_52 ?_
        refine j_isub B eX0_workOut_53 ?_
        refine jn1 (C := fun z30 => XJ p l e R s m args below meth c 0 0 Q A D vwCl (cellsX g ad) 7 w9 64 [(0, .ref (ad 99)), (1, .ref (ad (100 + 10 * a1))), (2, .int x2), (3, .int x4), (4, .int x8)] [.int z30, .int x12, .ref (ad 14)]) ho (fun z30 ho => ?_) (fun J31 hJ31 ho => ?_)
        · refine stX_14 B eX0_workOut_64 ho (fun w32 ho => ?_)
          refine j_goto B eX0_workOut_65 ?_
          refine j_iinc (d := 1) (lv' := fun x33 => [(0, .ref (ad 99)), (1, .ref (ad (100 + 10 * a1))), (2, .int x2), (3, .int x4), (4, .int x33)]) B eX0_workOut_169 4 rfl (by decide) [1, 2, 3, 4, 0] (by decide) (fun _ => rfl) ho (fun x33 ho => ?_)
          refine j_goto B eX0_workOut_172 ?_
          exact hself10 _ _ ho
        · refine j_icmp_ne B eX0_workOut_54 ho (fun _ ho => ?_) (fun _ ho => ?_)
          · refine j_ldcw B eX0_workOut_61 q469 ?_
            refine j_lsub (lv' := [(0, .ref (ad 99)), (1, .ref (ad (100 + 10 * a1))), (2, .int x2), (3, .int x4), (4, .int x8)]) [0, 1, 2, 3, 4] rfl ?_
            exact hJ31 _ ho
          · refine j_const B eX0_workOut_57 ?_
            refine j_goto B eX0_workOut_58 ?_
            refine j_lsub (lv' := [(0, .ref (ad 99)), (1, .ref (ad (100 + 10 * a1))), (2, .int x2), (3, .int x4), (4, .int x8)]) [0, 1, 2, 3, 4] rfl ?_
            exact hJ31 _ ho
def sX_crew_L256 (k4 : Nat) (x9 : Int32) : Int32 → Wd → Option (Int32 × Wd) :=
  fx (fun _ _ => none) (fun self20 x18 w19 =>
    if (w19.2.1 90 2) ≤ x18 then (some (x9, w19)) else (rd (inb x18 16) (w19.2.1 16 (Int32.toNatClampNeg x18)) fun v21 => if v21 = (-1 : Int32) then (nm (x18 + (1 : Int32)) fun x22 => self20 x22 w19) else (gd (decide (k4 < w19.1 0)) (rd (inb x18 16) (w19.2.1 16 (Int32.toNatClampNeg x18)) fun v23 => rd (decide (k4 < w19.1 0) && inb v23 9) (stG w19 (101 + 10 * k4) (Int32.toNatClampNeg v23) x18) fun w24 => nm (x18 + (1 : Int32)) fun x25 => self20 x25 w24)))) FU
def sX_crew_L228 (k4 : Nat) (J16 : Wd → Option (Int32 × Wd)) : Int32 → Wd → Option (Int32 × Wd) :=
  fx (fun _ _ => none) (fun self28 x26 w27 =>
    gd (decide (k4 < w27.1 0)) (bd (sB_seats w27 k4) fun v29 => if v29 ≤ x26 then (J16 w27) else (gd (decide (k4 < w27.1 0)) (rd (decide (k4 < w27.1 0) && inb x26 9) (stG w27 (101 + 10 * k4) (Int32.toNatClampNeg x26) (-1 : Int32)) fun w30 => nm (x26 + (1 : Int32)) fun x31 => self28 x31 w30)))) FU
def sX_crew_L122 (k4 : Nat) (x32 : Int32) (x33 : Int32) (w34 : Wd) (x36 : Int32) (J41 : Int32 → Option (Int32 × Wd)) : Int32 → Int32 → Option (Int32 × Wd) :=
  fx (fun _ _ => none) (fun self48 x46 x47 =>
    if x47 < 0 then (J41 x46) else (bd (sX_mayCome w34 k4 x33) fun v49 => if v49 = 0 then (J41 x46) else (if ((x32 >>> (x47 &&& 31)) &&& (1 : Int32)) = 0 then (bd (sX_costOf w34 k4 x47 x33) fun v51 => rd (inb ((x36 + (256 : Int32)) + ((1 : Int32) <<< (x47 &&& 31))) 4352) (w34.2.1 14 (Int32.toNatClampNeg ((x36 + (256 : Int32)) + ((1 : Int32) <<< (x47 &&& 31))))) fun v52 => rd (inb x36 4352) (w34.2.1 14 (Int32.toNatClampNeg x36)) fun v53 => if (v51 + v52) = v53 then (nm x47 fun x55 => nm (x47 + (-1 : Int32)) fun x56 => self48 x55 x56) else (nm (x47 + (-1 : Int32)) fun x54 => self48 x46 x54)) else (nm (x47 + (-1 : Int32)) fun x50 => self48 x46 x50)))) FU
def sX_crew_L90 (k4 : Nat) (J13 : Wd → Option (Int32 × Wd)) : Int32 → Int32 → Wd → Option (Int32 × Wd) :=
  fx (fun _ _ _ => none) (fun self35 x32 x33 w34 =>
    if (w34.2.1 90 2) ≤ x33 then (J13 w34) else (nm ((x33 * (256 : Int32)) + x32) fun x36 => nm (-1 : Int32) fun x37 => gd (decide (k4 < w34.1 0)) (bd (sB_seats w34 k4) fun v38 => nm (v38 - (1 : Int32)) fun x39 => jn (fun x40 => rd (inb x33 16) (stG w34 16 (Int32.toNatClampNeg x33) x40) fun w42 => if x40 = (-1 : Int32) then (nm (x33 + (1 : Int32)) fun x43 => self35 x32 x43 w42) else (nm (x32 ||| ((1 : Int32) <<< (x40 &&& 31))) fun x44 => nm (x33 + (1 : Int32)) fun x45 => self35 x44 x45 w42)) fun J41 => sX_crew_L122 k4 x32 x33 w34 x36 J41 x37 x39))) FU
def sX_crew (w : Wd) (a1 : Int32) (a2 : Int32) (a3 : Int32) : Option (Int32 × Wd) :=
  bd (sX_isBoat w a1) fun v1 => if v1 = 0 then (some ((-1 : Int32), w)) else (bd (sX_in (Int32.toInt64 a2) (0 : Int64) (23 : Int64)) fun v2 => if v2 = 0 then (some ((-2 : Int32), w)) else (bd (sX_in (Int32.toInt64 a3) (0 : Int64) (1 : Int64)) fun v3 => if v3 = 0 then (some ((-2 : Int32), w)) else (rd (inb a1 8 && decide (Int32.toNatClampNeg a1 < w.1 3)) (Int32.toNatClampNeg a1) fun k4 => nm (stG w 90 15 a2) fun w5 => bd (sX_workOut w5 k4) fun w6 => rd (inb (0 : Int32) 4352) (w6.2.1 14 (Int32.toNatClampNeg (0 : Int32))) fun v7 => if v7 < (1048576 : Int32) then (rd (inb (0 : Int32) 4352) (w6.2.1 14 (Int32.toNatClampNeg (0 : Int32))) fun v8 => nm v8 fun x9 => if a3 = 0 then (some (x9, w6)) else (nm (0 : Int32) fun x10 => nm (0 : Int32) fun x11 => jn (fun w12 => nm (0 : Int32) fun x14 => jn (fun w15 => nm (0 : Int32) fun x17 => sX_crew_L256 k4 x9 x17 w15) fun J16 => sX_crew_L228 k4 J16 x14 w12) fun J13 => sX_crew_L90 k4 J13 x10 x11 w6)) else (some ((-3 : Int32), w6)))))
abbrev rmX0_crew : Room := { frames := 4, cells := 0, slots := 0, locals := 92 }
theorem pkX0_crew : PkV yX0_crew RX0 cX0_crew 11 (some .int) 3 := ⟨q461, q462, q57, q463, by decide +kernel⟩
set_option maxHeartbeats 4000000 in
theorem met_X0_crew (l : Launch) (D : va_G) (g : Nat → ClassId) (ad sd : Nat → Nat) (w : Wd) (a1 : Int32) (a2 : Int32) (a3 : Int32) (sz : Nat) (r : Int32) (w' : Wd) (ho : sX_crew w a1 a2 a3 = some (r, w')) : Met l yX0_crew (ws_ yX0_crew cX0_crew 11 (some .int)) rmX0_crew (va_Pc [.ref (ad 99), .int a1, .int a2, .int a3] (MPre D vwCl (tysG g) (cellsX g ad w) (NXX sd (cellsX g ad w)) sz)) (QcI D vwCl (tysG g) (cellsX g ad w') r (va_A (cellsX g ad w) sz)) 0 0 (va_A (cellsX g ad w) sz) := by
  refine met_XJ (cw := cellsX g ad) (w := w) (cc := cX0_crew) (lv := [(0, .ref (ad 99)), (1, .int a1), (2, .int a2), (3, .int a3)]) pnX0 _ (Nat.le_of_ble_eq_true rfl) rfl ?_
  intro p e s m args below meth c R Q A B hN hr hsz hA hmm hRm hQ hAe
  have hX : NXA sd A s := by rw [hAe, ← hsz]; exact hN
  unfold sX_crew at ho
  refine j_aload_n B eX0_crew_0 0 rfl ?_
  refine j_iload_n B eX0_crew_1 1 rfl ?_
  refine j_callVi (As := [.int a1]) B hA (met_X0_isBoat l D g ad sd w a1) (NXX_ok hX) pkX0_isBoat q337 0 rfl rfl rfl rfl hRm ⟨Nat.le_of_ble_eq_true rfl, Nat.le_of_ble_eq_true rfl⟩ rfl rfl (Nat.le_of_ble_eq_true rfl) ⟨Nat.zero_le _, Nat.zero_le _⟩ eX0_crew_2 ho (fun v1 ho => ?_)
  refine j_if_ne B eX0_crew_5 ho (fun _ ho => ?_) (fun _ ho => ?_)
  · refine j_iload_n B eX0_crew_10 2 rfl ?_
    refine j_i2l B eX0_crew_11 ?_
    refine j_lconst (v := 0) B eX0_crew_12 rfl ?_
    refine j_ldc2 B eX0_crew_13 q464 ?_
    refine j_callSi (As := [.long (Int32.toInt64 a2), .long (0 : Int64), .long (23 : Int64)]) B hA (met_X0_in l D _ _ _ (Int32.toInt64 a2) (0 : Int64) (23 : Int64)) NT_ok pkX0_in q224 rfl rfl hRm ⟨Nat.le_of_ble_eq_true rfl, Nat.le_of_ble_eq_true rfl⟩ rfl rfl (Nat.le_of_ble_eq_true rfl) ⟨Nat.zero_le _, Nat.zero_le _⟩ eX0_crew_16 ho (fun v2 ho => ?_)
    refine j_if_eq B eX0_crew_19 ho (fun _ ho => ?_) (fun _ ho => ?_)
    · refine j_const B eX0_crew_32 ?_
      exact j_iretw B hr hQ eX0_crew_34 ho
    · refine j_iload_n B eX0_crew_22 3 rfl ?_
      refine j_i2l B eX0_crew_23 ?_
      refine j_lconst (v := 0) B eX0_crew_24 rfl ?_
      refine j_lconst (v := 1) B eX0_crew_25 rfl ?_
      refine j_callSi (As := [.long (Int32.toInt64 a3), .long (0 : Int64), .long (1 : Int64)]) B hA (met_X0_in l D _ _ _ (Int32.toInt64 a3) (0 : Int64) (1 : Int64)) NT_ok pkX0_in q224 rfl rfl hRm ⟨Nat.le_of_ble_eq_true rfl, Nat.le_of_ble_eq_true rfl⟩ rfl rfl (Nat.le_of_ble_eq_true rfl) ⟨Nat.zero_le _, Nat.zero_le _⟩ eX0_crew_26 ho (fun v3 ho => ?_)
      refine j_if_ne B eX0_crew_29 ho (fun _ ho => ?_) (fun _ ho => ?_)
      · refine j_aload_n B eX0_crew_35 0 rfl ?_
        refine gfX_1 B eX0_crew_36 ?_
        refine j_iload_n B eX0_crew_39 1 rfl ?_
        refine alX_1 B eX0_crew_40 ho (fun k4 ho => ?_)
        refine j_astore (lv' := [(0, .ref (ad 99)), (2, .int a2), (3, .int a3), (4, .ref (ad (100 + 10 * k4)))]) B eX0_crew_41 [1, 3, 4, 0] (by decide) rfl ?_
        refine j_aload_n B eX0_crew_43 0 rfl ?_
        refine j_iload_n B eX0_crew_44 1 rfl ?_
        refine pfX_15 B eX0_crew_45 ho (fun w5 ho => ?_)
        refine j_aload_n B eX0_crew_48 0 rfl ?_
        refine j_aload B eX0_crew_49 3 rfl ?_
        refine j_callVvw (As := [.ref (ad (100 + 10 * k4))]) B hA (met_X0_workOut l D g ad sd w5 k4) (NXX_ok hX) pkX0_workOut q465 0 rfl rfl rfl rfl hRm ⟨Nat.le_of_ble_eq_true rfl, Nat.le_of_ble_eq_true rfl⟩ rfl rfl (Nat.le_of_ble_eq_true rfl) ⟨Nat.zero_le _, Nat.zero_le _⟩ eX0_crew_51 ho (fun w6 ho => ?_)
        refine j_aload_n B eX0_crew_54 0 rfl ?_
        refine gfX_14 B eX0_crew_55 ?_
        refine j_const B eX0_crew_58 ?_
        refine ldX_14 B eX0_crew_59 ho (fun v7 ho => ?_)
        refine j_ldcw B eX0_crew_60 q469 ?_
        refine j_icmp_lt B eX0_crew_63 ho (fun _ ho => ?_) (fun _ ho => ?_)
        · refine j_aload_n B eX0_crew_69 0 rfl ?_
          refine gfX_14 B eX0_crew_70 ?_
          refine j_const B eX0_crew_73 ?_
          refine ldX_14 B eX0_crew_74 ho (fun v8 ho => ?_)
          refine j_istore (lv' := fun x9 => [(0, .ref (ad 99)), (3, .int a3), (4, .ref (ad (100 + 10 * k4))), (5, .int x9)]) B eX0_crew_75 [1, 3, 4, 0] (by decide) (fun _ => rfl) ho (fun x9 ho => ?_)
          refine j_iload_n B eX0_crew_77 1 rfl ?_
          refine j_if_ne B eX0_crew_78 ho (fun _ ho => ?_) (fun _ ho => ?_)
          · refine j_const B eX0_crew_84 ?_
            refine j_istore (lv' := fun x10 => [(0, .ref (ad 99)), (4, .ref (ad (100 + 10 * k4))), (5, .int x9), (6, .int x10)]) B eX0_crew_85 [1, 3, 4, 0] (by decide) (fun _ => rfl) ho (fun x10 ho => ?_)
            refine j_const B eX0_crew_87 ?_
            refine j_istore (lv' := fun x11 => [(0, .ref (ad 99)), (4, .ref (ad (100 + 10 * k4))), (5, .int x9), (6, .int x10), (7, .int x11)]) B eX0_crew_88 [1, 2, 3, 4, 0] (by decide) (fun _ => rfl) ho (fun x11 ho => ?_)
            refine jn1 (C := fun w12 => XJ p l e R s m args below meth c 0 0 Q A D vwCl (cellsX g ad) 11 w12 225 [(0, .ref (ad 99)), (4, .ref (ad (100 + 10 * k4))), (5, .int x9)] []) ho (fun w12 ho => ?_) (fun J13 hJ13 ho => ?_)
            · refine j_const B eX0_crew_225 ?_
              refine j_istore (lv' := fun x14 => [(0, .ref (ad 99)), (4, .ref (ad (100 + 10 * k4))), (5, .int x9), (7, .int x14)]) B eX0_crew_226 [1, 2, 3, 0] (by decide) (fun _ => rfl) ho (fun x14 ho => ?_)
              refine jn1 (C := fun w15 => XJ p l e R s m args below meth c 0 0 Q A D vwCl (cellsX g ad) 11 w15 253 [(0, .ref (ad 99)), (4, .ref (ad (100 + 10 * k4))), (5, .int x9)] []) ho (fun w15 ho => ?_) (fun J16 hJ16 ho => ?_)
              · refine j_const B eX0_crew_253 ?_
                refine j_istore (lv' := fun x17 => [(0, .ref (ad 99)), (4, .ref (ad (100 + 10 * k4))), (5, .int x9), (7, .int x17)]) B eX0_crew_254 [1, 2, 3, 0] (by decide) (fun _ => rfl) ho (fun x17 ho => ?_)
                unfold sX_crew_L256 at ho
                refine fx2 (C := fun x18 w19 => XJ p l e R s m args below meth c 0 0 Q A D vwCl (cellsX g ad) 11 w19 256 [(0, .ref (ad 99)), (4, .ref (ad (100 + 10 * k4))), (5, .int x9), (7, .int x18)] []) (fun self20 hself20 x18 w19 ho => ?_) FU _ _ ho
                refine j_iload B eX0_crew_256 3 rfl ?_
                refine j_aload_n B eX0_crew_258 0 rfl ?_
                refine gfX_2 B eX0_crew_259 ?_
                refine j_icmp_ge B eX0_crew_262 ho (fun _ ho => ?_) (fun _ ho => ?_)
                · refine j_iload B eX0_crew_297 2 rfl ?_
                  exact j_iretw B hr hQ eX0_crew_299 ho
                · refine j_aload_n B eX0_crew_265 0 rfl ?_
                  refine gfX_16 B eX0_crew_266 ?_
                  refine j_iload B eX0_crew_269 3 rfl ?_
                  refine ldX_16 B eX0_crew_271 ho (fun v21 ho => ?_)
                  refine j_const B eX0_crew_272 ?_
                  refine j_icmp_eq B eX0_crew_273 ho (fun _ ho => ?_) (fun _ ho => ?_)
                  · refine j_iinc (d := 1) (lv' := fun x22 => [(0, .ref (ad 99)), (4, .ref (ad (100 + 10 * k4))), (5, .int x9), (7, .int x22)]) B eX0_crew_291 3 rfl (by decide) [1, 2, 3, 0] (by decide) (fun _ => rfl) ho (fun x22 ho => ?_)
                    refine j_goto B eX0_crew_294 ?_
                    exact hself20 _ _ ho
                  · refine j_aload B eX0_crew_276 1 rfl ?_
                    refine gfBNr (j := 4) B hX (by decide) nq306 rfl eX0_crew_278 ho (fun ho => ?_)
                    refine j_aload_n B eX0_crew_281 0 rfl ?_
                    refine gfX_16 B eX0_crew_282 ?_
                    refine j_iload B eX0_crew_285 3 rfl ?_
                    refine ldX_16 B eX0_crew_287 ho (fun v23 ho => ?_)
                    refine j_iload B eX0_crew_288 3 rfl ?_
                    refine stC B eX0_crew_290 ho (fun w24 ho => ?_)
                    refine j_iinc (d := 1) (lv' := fun x25 => [(0, .ref (ad 99)), (4, .ref (ad (100 + 10 * k4))), (5, .int x9), (7, .int x25)]) B eX0_crew_291 3 rfl (by decide) [1, 2, 3, 0] (by decide) (fun _ => rfl) ho (fun x25 ho => ?_)
                    refine j_goto B eX0_crew_294 ?_
                    exact hself20 _ _ ho
              · unfold sX_crew_L228 at ho
                refine fx2 (C := fun x26 w27 => XJ p l e R s m args below meth c 0 0 Q A D vwCl (cellsX g ad) 11 w27 228 [(0, .ref (ad 99)), (4, .ref (ad (100 + 10 * k4))), (5, .int x9), (7, .int x26)] []) (fun self28 hself28 x26 w27 ho => ?_) FU _ _ ho
                refine j_iload B eX0_crew_228 3 rfl ?_
                refine j_aload B eX0_crew_230 1 rfl ?_
                obtain ⟨hg, ho⟩ := gd_e ho
                refine j_callVi (As := []) B hA (met_X7_seats l D g ad sd w27 k4) (NXX_ok hX) pkX7_seats q341 _ (at_boat (of_decide_eq_true hg)) rfl rfl rfl hRm ⟨Nat.le_of_ble_eq_true rfl, Nat.le_of_ble_eq_true rfl⟩ rfl rfl (Nat.le_of_ble_eq_true rfl) ⟨Nat.zero_le _, Nat.zero_le _⟩ eX0_crew_232 ho (fun v29 ho => ?_)
                refine j_icmp_ge B eX0_crew_235 ho (fun _ ho => ?_) (fun _ ho => ?_)
                · refine j_lsub (lv' := [(0, .ref (ad 99)), (4, .ref (ad (100 + 10 * k4))), (5, .int x9)]) [0, 1, 2] rfl ?_
                  exact hJ16 _ ho
                · refine j_aload B eX0_crew_238 1 rfl ?_
                  refine gfBNr (j := 4) B hX (by decide) nq306 rfl eX0_crew_240 ho (fun ho => ?_)
                  refine j_iload B eX0_crew_243 3 rfl ?_
                  refine j_const B eX0_crew_245 ?_
                  refine stC B eX0_crew_246 ho (fun w30 ho => ?_)
                  refine j_iinc (d := 1) (lv' := fun x31 => [(0, .ref (ad 99)), (4, .ref (ad (100 + 10 * k4))), (5, .int x9), (7, .int x31)]) B eX0_crew_247 3 rfl (by decide) [1, 2, 3, 0] (by decide) (fun _ => rfl) ho (fun x31 ho => ?_)
                  refine j_goto B eX0_crew_250 ?_
                  exact hself28 _ _ ho
            · unfold sX_crew_L90 at ho
              refine fx3 (C := fun x32 x33 w34 => XJ p l e R s m args below meth c 0 0 Q A D vwCl (cellsX g ad) 11 w34 90 [(0, .ref (ad 99)), (4, .ref (ad (100 + 10 * k4))), (5, .int x9), (6, .int x32), (7, .int x33)] []) (fun self35 hself35 x32 x33 w34 ho => ?_) FU _ _ _ ho
              refine j_iload B eX0_crew_90 4 rfl ?_
              refine j_aload_n B eX0_crew_92 0 rfl ?_
              refine gfX_2 B eX0_crew_93 ?_
              refine j_icmp_ge B eX0_crew_96 ho (fun _ ho => ?_) (fun _ ho => ?_)
              · refine j_lsub (lv' := [(0, .ref (ad 99)), (4, .ref (ad (100 + 10 * k4))), (5, .int x9)]) [0, 1, 2] rfl ?_
                exact hJ13 _ ho
              · refine j_iload B eX0_crew_99 4 rfl ?_
                refine j_const B eX0_crew_101 ?_
                refine j_imul B eX0_crew_104 ?_
                refine j_iload B eX0_crew_105 3 rfl ?_
                refine j_iadd B eX0_crew_107 ?_
                refine j_istore (lv' := fun x36 => [(0, .ref (ad 99)), (4, .ref (ad (100 + 10 * k4))), (5, .int x9), (6, .int x32), (7, .int x33), (8, .int x36)]) B eX0_crew_108 [1, 2, 3, 4, 5, 0] (by decide) (fun _ => rfl) ho (fun x36 ho => ?_)
                refine j_const B eX0_crew_110 ?_
                refine j_istore (lv' := fun x37 => [(0, .ref (ad 99)), (4, .ref (ad (100 + 10 * k4))), (5, .int x9), (6, .int x32), (7, .int x33), (8, .int x36), (9, .int x37)]) B eX0_crew_111 [1, 2, 3, 4, 5, 6, 0] (by decide) (fun _ => rfl) ho (fun x37 ho => ?_)
                refine j_aload B eX0_crew_113 1 rfl ?_
                obtain ⟨hg, ho⟩ := gd_e ho
                refine j_callVi (As := []) B hA (met_X7_seats l D g ad sd w34 k4) (NXX_ok hX) pkX7_seats q341 _ (at_boat (of_decide_eq_true hg)) rfl rfl rfl hRm ⟨Nat.le_of_ble_eq_true rfl, Nat.le_of_ble_eq_true rfl⟩ rfl rfl (Nat.le_of_ble_eq_true rfl) ⟨Nat.zero_le _, Nat.zero_le _⟩ eX0_crew_115 ho (fun v38 ho => ?_)
                refine j_const B eX0_crew_118 ?_
                refine j_isub B eX0_crew_119 ?_
                refine j_istore (lv' := fun x39 => [(0, .ref (ad 99)), (4, .ref (ad (100 + 10 * k4))), (5, .int x9), (6, .int x32), (7, .int x33), (8, .int x36), (9, .int x37), (10, .int x39)]) B eX0_crew_120 [1, 2, 3, 4, 5, 6, 7, 0] (by decide) (fun _ => rfl) ho (fun x39 ho => ?_)
                refine jn1 (C := fun x40 => XJ p l e R s m args below meth c 0 0 Q A D vwCl (cellsX g ad) 11 w34 195 [(0, .ref (ad 99)), (4, .ref (ad (100 + 10 * k4))), (5, .int x9), (6, .int x32), (7, .int x33), (9, .int x40)] []) ho (fun x40 ho => ?_) (fun J41 hJ41 ho => ?_)
                · refine j_aload_n B eX0_crew_195 0 rfl ?_
                  refine gfX_16 B eX0_crew_196 ?_
                  refine j_iload B eX0_crew_199 4 rfl ?_
                  refine j_iload B eX0_crew_201 5 rfl ?_
                  refine stX_16 B eX0_crew_203 ho (fun w42 ho => ?_)
                  refine j_iload B eX0_crew_204 5 rfl ?_
                  refine j_const B eX0_crew_206 ?_
                  refine j_icmp_eq B eX0_crew_207 ho (fun _ ho => ?_) (fun _ ho => ?_)
                  · refine j_iinc (d := 1) (lv' := fun x43 => [(0, .ref (ad 99)), (4, .ref (ad (100 + 10 * k4))), (5, .int x9), (6, .int x32), (7, .int x43)]) B eX0_crew_219 4 rfl (by decide) [1, 2, 3, 4, 0] (by decide) (fun _ => rfl) ho (fun x43 ho => ?_)
                    refine j_goto B eX0_crew_222 ?_
                    exact hself35 _ _ _ ho
                  · refine j_iload B eX0_crew_210 3 rfl ?_
                    refine j_const B eX0_crew_212 ?_
                    refine j_iload B eX0_crew_213 5 rfl ?_
                    refine j_ishl B eX0_crew_215 ?_
                    refine j_ior B eX0_crew_216 ?_
                    refine j_istore (lv' := fun x44 => [(0, .ref (ad 99)), (4, .ref (ad (100 + 10 * k4))), (5, .int x9), (6, .int x44), (7, .int x33)]) B eX0_crew_217 [1, 2, 3, 0, 4] (by decide) (fun _ => rfl) ho (fun x44 ho => ?_)
                    refine j_iinc (d := 1) (lv' := fun x45 => [(0, .ref (ad 99)), (4, .ref (ad (100 + 10 * k4))), (5, .int x9), (6, .int x44), (7, .int x45)]) B eX0_crew_219 4 rfl (by decide) [1, 2, 3, 4, 0] (by decide) (fun _ => rfl) ho (fun x45 ho => ?_)
                    refine j_goto B eX0_crew_222 ?_
                    exact hself35 _ _ _ ho
                · unfold sX_crew_L122 at ho
                  refine fx2 (C := fun x46 x47 => XJ p l e R s m args below meth c 0 0 Q A D vwCl (cellsX g ad) 11 w34 122 [(0, .ref (ad 99)), (4, .ref (ad (100 + 10 * k4))), (5, .int x9), (6, .int x32), (7, .int x33), (8, .int x36), (9, .int x46), (10, .int x47)] []) (fun self48 hself48 x46 x47 ho => ?_) FU _ _ ho
                  refine j_iload B eX0_crew_122 7 rfl ?_
                  refine j_if_lt B eX0_crew_124 ho (fun _ ho => ?_) (fun _ ho => ?_)
                  · refine j_lsub (lv' := [(0, .ref (ad 99)), (4, .ref (ad (100 + 10 * k4))), (5, .int x9), (6, .int x32), (7, .int x33), (9, .int x46)]) [0, 1, 2, 3, 4, 6] rfl ?_
                    exact hJ41 _ ho
                  · refine j_aload_n B eX0_crew_127 0 rfl ?_
                    refine j_aload B eX0_crew_128 1 rfl ?_
                    refine j_iload B eX0_crew_130 4 rfl ?_
                    refine j_callVi (As := [.ref (ad (100 + 10 * k4)), .int x33]) B hA (met_X0_mayCome l D g ad sd w34 k4 x33) (NXX_ok hX) pkX0_mayCome q470 0 rfl rfl rfl rfl hRm ⟨Nat.le_of_ble_eq_true rfl, Nat.le_of_ble_eq_true rfl⟩ rfl rfl (Nat.le_of_ble_eq_true rfl) ⟨Nat.zero_le _, Nat.zero_le _⟩ eX0_crew_132 ho (fun v49 ho => ?_)
                    refine j_if_eq B eX0_crew_135 ho (fun _ ho => ?_) (fun _ ho => ?_)
                    · refine j_lsub (lv' := [(0, .ref (ad 99)), (4, .ref (ad (100 + 10 * k4))), (5, .int x9), (6, .int x32), (7, .int x33), (9, .int x46)]) [0, 1, 2, 3, 4, 6] rfl ?_
                      exact hJ41 _ ho
                    · refine j_iload B eX0_crew_138 3 rfl ?_
                      refine j_iload B eX0_crew_140 7 rfl ?_
                      refine j_ishr B eX0_crew_142 ?_
                      refine j_const B eX0_crew_143 ?_
                      refine j_iand B eX0_crew_144 ?_
                      refine j_if_ne B eX0_crew_145 ho (fun _ ho => ?_) (fun _ ho => ?_)
                      · refine j_iinc (d := -1) (lv' := fun x50 => [(0, .ref (ad 99)), (4, .ref (ad (100 + 10 * k4))), (5, .int x9), (6, .int x32), (7, .int x33), (8, .int x36), (9, .int x46), (10, .int x50)]) B eX0_crew_189 7 rfl (by decide) [1, 2, 3, 4, 5, 6, 7, 0] (by decide) (fun _ => rfl) ho (fun x50 ho => ?_)
                        refine j_goto B eX0_crew_192 ?_
                        exact hself48 _ _ ho
                      · refine j_aload_n B eX0_crew_148 0 rfl ?_
                        refine j_aload B eX0_crew_149 1 rfl ?_
                        refine j_iload B eX0_crew_151 7 rfl ?_
                        refine j_iload B eX0_crew_153 4 rfl ?_
                        refine j_callVi (As := [.ref (ad (100 + 10 * k4)), .int x47, .int x33]) B hA (met_X0_costOf l D g ad sd w34 k4 x47 x33) (NXX_ok hX) pkX0_costOf q487 0 rfl rfl rfl rfl hRm ⟨Nat.le_of_ble_eq_true rfl, Nat.le_of_ble_eq_true rfl⟩ rfl rfl (Nat.le_of_ble_eq_true rfl) ⟨Nat.zero_le _, Nat.zero_le _⟩ eX0_crew_155 ho (fun v51 ho => ?_)
                        refine j_aload_n B eX0_crew_158 0 rfl ?_
                        refine gfX_14 B eX0_crew_159 ?_
                        refine j_iload B eX0_crew_162 5 rfl ?_
                        refine j_const B eX0_crew_164 ?_
                        refine j_iadd B eX0_crew_167 ?_
                        refine j_const B eX0_crew_168 ?_
                        refine j_iload B eX0_crew_169 7 rfl ?_
                        refine j_ishl B eX0_crew_171 ?_
                        refine j_iadd B eX0_crew_172 ?_
                        refine ldX_14 B eX0_crew_173 ho (fun v52 ho => ?_)
                        refine j_iadd B eX0_crew_174 ?_
                        refine j_aload_n B eX0_crew_175 0 rfl ?_
                        refine gfX_14 B eX0_crew_176 ?_
                        refine j_iload B eX0_crew_179 5 rfl ?_
                        refine ldX_14 B eX0_crew_181 ho (fun v53 ho => ?_)
                        refine j_icmp_ne B eX0_crew_182 ho (fun _ ho => ?_) (fun _ ho => ?_)
                        · refine j_iinc (d := -1) (lv' := fun x54 => [(0, .ref (ad 99)), (4, .ref (ad (100 + 10 * k4))), (5, .int x9), (6, .int x32), (7, .int x33), (8, .int x36), (9, .int x46), (10, .int x54)]) B eX0_crew_189 7 rfl (by decide) [1, 2, 3, 4, 5, 6, 7, 0] (by decide) (fun _ => rfl) ho (fun x54 ho => ?_)
                          refine j_goto B eX0_crew_192 ?_
                          exact hself48 _ _ ho
                        · refine j_iload B eX0_crew_185 7 rfl ?_
                          refine j_istore (lv' := fun x55 => [(0, .ref (ad 99)), (4, .ref (ad (100 + 10 * k4))), (5, .int x9), (6, .int x32), (7, .int x33), (8, .int x36), (9, .int x55), (10, .int x47)]) B eX0_crew_187 [1, 2, 3, 4, 5, 6, 0, 7] (by decide) (fun _ => rfl) ho (fun x55 ho => ?_)
                          refine j_iinc (d := -1) (lv' := fun x56 => [(0, .ref (ad 99)), (4, .ref (ad (100 + 10 * k4))), (5, .int x9), (6, .int x32), (7, .int x33), (8, .int x36), (9, .int x55), (10, .int x56)]) B eX0_crew_189 7 rfl (by decide) [1, 2, 3, 4, 5, 6, 7, 0] (by decide) (fun _ => rfl) ho (fun x56 ho => ?_)
                          refine j_goto B eX0_crew_192 ?_
                          exact hself48 _ _ ho
          · refine j_iload B eX0_crew_81 3 rfl ?_
            exact j_iretw B hr hQ eX0_crew_83 ho
        · refine j_const B eX0_crew_66 ?_
          exact j_iretw B hr hQ eX0_crew_68 ho
      · refine j_const B eX0_crew_32 ?_
        exact j_iretw B hr hQ eX0_crew_34 ho
  · refine j_const B eX0_crew_8 ?_
    exact j_iretw B hr hQ eX0_crew_9 ho
