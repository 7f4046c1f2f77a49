set_option maxRecDepth 100000
theorem eX0_outsBetween_0 : DC cX0_outsBetween 0 (0) 1 := Or.inl ⟨0, ⟨by decide +kernel, rfl⟩, by decide⟩
theorem eX0_outsBetween_1 : D2 cX0_outsBetween 1 (.istore 4) 3 := ⟨by decide +kernel, rfl⟩
theorem eX0_outsBetween_3 : D1 cX0_outsBetween 3 (.aload_n 0) 4 := ⟨by decide +kernel, rfl⟩
theorem eX0_outsBetween_4 : DC cX0_outsBetween 4 (-1) 5 := Or.inl ⟨-1, ⟨by decide +kernel, rfl⟩, by decide⟩
theorem eX0_outsBetween_5 : D3 cX0_outsBetween 5 (.putfield 394) 8 := ⟨by decide +kernel, rfl⟩
theorem eX0_outsBetween_8 : D1 cX0_outsBetween 8 (.iload_n 3) 9 := ⟨by decide +kernel, rfl⟩
theorem eX0_outsBetween_9 : DC cX0_outsBetween 9 (1) 10 := Or.inl ⟨1, ⟨by decide +kernel, rfl⟩, by decide⟩
theorem eX0_outsBetween_10 : D1 cX0_outsBetween 10 (.isub) 11 := ⟨by decide +kernel, rfl⟩
theorem eX0_outsBetween_11 : D2 cX0_outsBetween 11 (.istore 5) 13 := ⟨by decide +kernel, rfl⟩
theorem eX0_outsBetween_13 : D2 cX0_outsBetween 13 (.iload 5) 15 := ⟨by decide +kernel, rfl⟩
theorem eX0_outsBetween_15 : D1 cX0_outsBetween 15 (.iload_n 2) 16 := ⟨by decide +kernel, rfl⟩
theorem eX0_outsBetween_16 : DJ cX0_outsBetween 16 (.if_icmp .lt) 48 19 := ⟨32, by decide +kernel, by decide, rfl⟩
theorem eX0_outsBetween_19 : D1 cX0_outsBetween 19 (.aload_n 0) 20 := ⟨by decide +kernel, rfl⟩
theorem eX0_outsBetween_20 : D3 cX0_outsBetween 20 (.getfield 65) 23 := ⟨by decide +kernel, rfl⟩
theorem eX0_outsBetween_23 : D2 cX0_outsBetween 23 (.iload 5) 25 := ⟨by decide +kernel, rfl⟩
theorem eX0_outsBetween_25 : D1 cX0_outsBetween 25 (.iaload) 26 := ⟨by decide +kernel, rfl⟩
theorem eX0_outsBetween_26 : D1 cX0_outsBetween 26 (.iload_n 1) 27 := ⟨by decide +kernel, rfl⟩
theorem eX0_outsBetween_27 : DJ cX0_outsBetween 27 (.if_icmp .eq) 33 30 := ⟨6, by decide +kernel, by decide, rfl⟩
theorem eX0_outsBetween_30 : DJ cX0_outsBetween 30 .goto 42 33 := ⟨12, by decide +kernel, by decide, rfl⟩
theorem eX0_outsBetween_33 : D3 cX0_outsBetween 33 (.iinc 4 1) 36 := ⟨by decide +kernel, rfl⟩
theorem eX0_outsBetween_36 : D1 cX0_outsBetween 36 (.aload_n 0) 37 := ⟨by decide +kernel, rfl⟩
theorem eX0_outsBetween_37 : D2 cX0_outsBetween 37 (.iload 5) 39 := ⟨by decide +kernel, rfl⟩
theorem eX0_outsBetween_39 : D3 cX0_outsBetween 39 (.putfield 394) 42 := ⟨by decide +kernel, rfl⟩
theorem eX0_outsBetween_42 : D3 cX0_outsBetween 42 (.iinc 5 (-1)) 45 := ⟨by decide +kernel, rfl⟩
theorem eX0_outsBetween_45 : DJ cX0_outsBetween 45 .goto 13 48 := ⟨-32, by decide +kernel, by decide, rfl⟩
theorem eX0_outsBetween_48 : D2 cX0_outsBetween 48 (.iload 4) 50 := ⟨by decide +kernel, rfl⟩
theorem eX0_outsBetween_50 : D1 cX0_outsBetween 50 (.ireturn) 51 := ⟨by decide +kernel, rfl⟩
theorem eX0_broke_0 : D1 cX0_broke 0 (.iload_n 1) 1 := ⟨by decide +kernel, rfl⟩
theorem eX0_broke_1 : D1 cX0_broke 1 (.i2l) 2 := ⟨by decide +kernel, rfl⟩
theorem eX0_broke_2 : D1 cX0_broke 2 (.lconst 0) 3 := ⟨by decide +kernel, rfl⟩
theorem eX0_broke_3 : D1 cX0_broke 3 (.aload_n 0) 4 := ⟨by decide +kernel, rfl⟩
theorem eX0_broke_4 : D3 cX0_broke 4 (.getfield 391) 7 := ⟨by decide +kernel, rfl⟩
theorem eX0_broke_7 : DC cX0_broke 7 (1) 8 := Or.inl ⟨1, ⟨by decide +kernel, rfl⟩, by decide⟩
theorem eX0_broke_8 : D1 cX0_broke 8 (.isub) 9 := ⟨by decide +kernel, rfl⟩
theorem eX0_broke_9 : D1 cX0_broke 9 (.i2l) 10 := ⟨by decide +kernel, rfl⟩
theorem eX0_broke_10 : D3 cX0_broke 10 (.invokestatic 103) 13 := ⟨by decide +kernel, rfl⟩
theorem eX0_broke_13 : DJ cX0_broke 13 (.ifCond .eq) 28 16 := ⟨15, by decide +kernel, by decide, rfl⟩
theorem eX0_broke_16 : D1 cX0_broke 16 (.iload_n 2) 17 := ⟨by decide +kernel, rfl⟩
theorem eX0_broke_17 : D1 cX0_broke 17 (.i2l) 18 := ⟨by decide +kernel, rfl⟩
theorem eX0_broke_18 : D1 cX0_broke 18 (.lconst 0) 19 := ⟨by decide +kernel, rfl⟩
theorem eX0_broke_19 : D3 cX0_broke 19 (.ldc2_w 397) 22 := ⟨by decide +kernel, rfl⟩
theorem eX0_broke_22 : D3 cX0_broke 22 (.invokestatic 103) 25 := ⟨by decide +kernel, rfl⟩
theorem eX0_broke_25 : DJ cX0_broke 25 (.ifCond .ne) 30 28 := ⟨5, by decide +kernel, by decide, rfl⟩
theorem eX0_broke_28 : DC cX0_broke 28 (-1) 29 := Or.inl ⟨-1, ⟨by decide +kernel, rfl⟩, by decide⟩
theorem eX0_broke_29 : D1 cX0_broke 29 (.ireturn) 30 := ⟨by decide +kernel, rfl⟩
theorem eX0_broke_30 : DC cX0_broke 30 (-1) 31 := Or.inl ⟨-1, ⟨by decide +kernel, rfl⟩, by decide⟩
theorem eX0_broke_31 : D1 cX0_broke 31 (.istore_n 3) 32 := ⟨by decide +kernel, rfl⟩
theorem eX0_broke_32 : DC cX0_broke 32 (0) 33 := Or.inl ⟨0, ⟨by decide +kernel, rfl⟩, by decide⟩
theorem eX0_broke_33 : D2 cX0_broke 33 (.istore 4) 35 := ⟨by decide +kernel, rfl⟩
theorem eX0_broke_35 : D2 cX0_broke 35 (.iload 4) 37 := ⟨by decide +kernel, rfl⟩
theorem eX0_broke_37 : D1 cX0_broke 37 (.iload_n 1) 38 := ⟨by decide +kernel, rfl⟩
theorem eX0_broke_38 : DJ cX0_broke 38 (.if_icmp .ge) 66 41 := ⟨28, by decide +kernel, by decide, rfl⟩
theorem eX0_broke_41 : D1 cX0_broke 41 (.aload_n 0) 42 := ⟨by decide +kernel, rfl⟩
theorem eX0_broke_42 : D3 cX0_broke 42 (.getfield 77) 45 := ⟨by decide +kernel, rfl⟩
theorem eX0_broke_45 : D2 cX0_broke 45 (.iload 4) 47 := ⟨by decide +kernel, rfl⟩
theorem eX0_broke_47 : D1 cX0_broke 47 (.iaload) 48 := ⟨by decide +kernel, rfl⟩
theorem eX0_broke_48 : D1 cX0_broke 48 (.aload_n 0) 49 := ⟨by decide +kernel, rfl⟩
theorem eX0_broke_49 : D3 cX0_broke 49 (.getfield 77) 52 := ⟨by decide +kernel, rfl⟩
theorem eX0_broke_52 : D1 cX0_broke 52 (.iload_n 1) 53 := ⟨by decide +kernel, rfl⟩
theorem eX0_broke_53 : D1 cX0_broke 53 (.iaload) 54 := ⟨by decide +kernel, rfl⟩
theorem eX0_broke_54 : DJ cX0_broke 54 (.if_icmp .ne) 60 57 := ⟨6, by decide +kernel, by decide, rfl⟩
theorem eX0_broke_57 : D2 cX0_broke 57 (.iload 4) 59 := ⟨by decide +kernel, rfl⟩
theorem eX0_broke_59 : D1 cX0_broke 59 (.istore_n 3) 60 := ⟨by decide +kernel, rfl⟩
theorem eX0_broke_60 : D3 cX0_broke 60 (.iinc 4 1) 63 := ⟨by decide +kernel, rfl⟩
theorem eX0_broke_63 : DJ cX0_broke 63 .goto 35 66 := ⟨-28, by decide +kernel, by decide, rfl⟩
theorem eX0_broke_66 : D1 cX0_broke 66 (.aload_n 0) 67 := ⟨by decide +kernel, rfl⟩
theorem eX0_broke_67 : D3 cX0_broke 67 (.getfield 83) 70 := ⟨by decide +kernel, rfl⟩
theorem eX0_broke_70 : D1 cX0_broke 70 (.iload_n 1) 71 := ⟨by decide +kernel, rfl⟩
theorem eX0_broke_71 : D1 cX0_broke 71 (.baload) 72 := ⟨by decide +kernel, rfl⟩
theorem eX0_broke_72 : DJ cX0_broke 72 (.ifCond .ne) 89 75 := ⟨17, by decide +kernel, by decide, rfl⟩
theorem eX0_broke_75 : D1 cX0_broke 75 (.iload_n 3) 76 := ⟨by decide +kernel, rfl⟩
theorem eX0_broke_76 : DC cX0_broke 76 (-1) 77 := Or.inl ⟨-1, ⟨by decide +kernel, rfl⟩, by decide⟩
theorem eX0_broke_77 : DJ cX0_broke 77 (.if_icmp .eq) 92 80 := ⟨15, by decide +kernel, by decide, rfl⟩
theorem eX0_broke_80 : D1 cX0_broke 80 (.aload_n 0) 81 := ⟨by decide +kernel, rfl⟩
theorem eX0_broke_81 : D3 cX0_broke 81 (.getfield 83) 84 := ⟨by decide +kernel, rfl⟩
theorem eX0_broke_84 : D1 cX0_broke 84 (.iload_n 3) 85 := ⟨by decide +kernel, rfl⟩
theorem eX0_broke_85 : D1 cX0_broke 85 (.baload) 86 := ⟨by decide +kernel, rfl⟩
theorem eX0_broke_86 : DJ cX0_broke 86 (.ifCond .ne) 92 89 := ⟨6, by decide +kernel, by decide, rfl⟩
theorem eX0_broke_89 : DC cX0_broke 89 (-3) 91 := Or.inr (Or.inl ⟨-3, ⟨by decide +kernel, rfl⟩, by decide⟩)
theorem eX0_broke_91 : D1 cX0_broke 91 (.ireturn) 92 := ⟨by decide +kernel, rfl⟩
theorem eX0_broke_92 : D1 cX0_broke 92 (.aload_n 0) 93 := ⟨by decide +kernel, rfl⟩
theorem eX0_broke_93 : D1 cX0_broke 93 (.aload_n 0) 94 := ⟨by decide +kernel, rfl⟩
theorem eX0_broke_94 : D3 cX0_broke 94 (.getfield 77) 97 := ⟨by decide +kernel, rfl⟩
theorem eX0_broke_97 : D1 cX0_broke 97 (.iload_n 1) 98 := ⟨by decide +kernel, rfl⟩
theorem eX0_broke_98 : D1 cX0_broke 98 (.iaload) 99 := ⟨by decide +kernel, rfl⟩
theorem eX0_broke_99 : D1 cX0_broke 99 (.iload_n 3) 100 := ⟨by decide +kernel, rfl⟩
theorem eX0_broke_100 : DC cX0_broke 100 (-1) 101 := Or.inl ⟨-1, ⟨by decide +kernel, rfl⟩, by decide⟩
theorem eX0_broke_101 : DJ cX0_broke 101 (.if_icmp .ne) 108 104 := ⟨7, by decide +kernel, by decide, rfl⟩
theorem eX0_broke_104 : DC cX0_broke 104 (0) 105 := Or.inl ⟨0, ⟨by decide +kernel, rfl⟩, by decide⟩
theorem eX0_broke_105 : DJ cX0_broke 105 .goto 114 108 := ⟨9, by decide +kernel, by decide, rfl⟩
theorem eX0_broke_108 : D1 cX0_broke 108 (.aload_n 0) 109 := ⟨by decide +kernel, rfl⟩
theorem eX0_broke_109 : D3 cX0_broke 109 (.getfield 80) 112 := ⟨by decide +kernel, rfl⟩
theorem eX0_broke_112 : D1 cX0_broke 112 (.iload_n 3) 113 := ⟨by decide +kernel, rfl⟩
theorem eX0_broke_113 : D1 cX0_broke 113 (.iaload) 114 := ⟨by decide +kernel, rfl⟩
theorem eX0_broke_114 : D1 cX0_broke 114 (.aload_n 0) 115 := ⟨by decide +kernel, rfl⟩
theorem eX0_broke_115 : D3 cX0_broke 115 (.getfield 80) 118 := ⟨by decide +kernel, rfl⟩
theorem eX0_broke_118 : D1 cX0_broke 118 (.iload_n 1) 119 := ⟨by decide +kernel, rfl⟩
theorem eX0_broke_119 : D1 cX0_broke 119 (.iaload) 120 := ⟨by decide +kernel, rfl⟩
theorem eX0_broke_120 : D3 cX0_broke 120 (.invokevirtual 399) 123 := ⟨by decide +kernel, rfl⟩
theorem eX0_broke_123 : D2 cX0_broke 123 (.istore 4) 125 := ⟨by decide +kernel, rfl⟩
theorem eX0_broke_125 : D1 cX0_broke 125 (.iload_n 2) 126 := ⟨by decide +kernel, rfl⟩
theorem eX0_broke_126 : DJ cX0_broke 126 (.ifCond .ne) 132 129 := ⟨6, by decide +kernel, by decide, rfl⟩
theorem eX0_broke_129 : D2 cX0_broke 129 (.iload 4) 131 := ⟨by decide +kernel, rfl⟩
theorem eX0_broke_131 : D1 cX0_broke 131 (.ireturn) 132 := ⟨by decide +kernel, rfl⟩
theorem eX0_broke_132 : D2 cX0_broke 132 (.iload 4) 134 := ⟨by decide +kernel, rfl⟩
theorem eX0_broke_134 : DJ cX0_broke 134 (.ifCond .ne) 141 137 := ⟨7, by decide +kernel, by decide, rfl⟩
theorem eX0_broke_137 : DC cX0_broke 137 (-1) 138 := Or.inl ⟨-1, ⟨by decide +kernel, rfl⟩, by decide⟩
theorem eX0_broke_138 : DJ cX0_broke 138 .goto 162 141 := ⟨24, by decide +kernel, by decide, rfl⟩
theorem eX0_broke_141 : D1 cX0_broke 141 (.iload_n 2) 142 := ⟨by decide +kernel, rfl⟩
theorem eX0_broke_142 : DC cX0_broke 142 (1) 143 := Or.inl ⟨1, ⟨by decide +kernel, rfl⟩, by decide⟩
theorem eX0_broke_143 : DJ cX0_broke 143 (.if_icmp .ne) 153 146 := ⟨10, by decide +kernel, by decide, rfl⟩
theorem eX0_broke_146 : D1 cX0_broke 146 (.aload_n 0) 147 := ⟨by decide +kernel, rfl⟩
theorem eX0_broke_147 : D3 cX0_broke 147 (.getfield 394) 150 := ⟨by decide +kernel, rfl⟩
theorem eX0_broke_150 : DJ cX0_broke 150 .goto 162 153 := ⟨12, by decide +kernel, by decide, rfl⟩
theorem eX0_broke_153 : D1 cX0_broke 153 (.aload_n 0) 154 := ⟨by decide +kernel, rfl⟩
theorem eX0_broke_154 : D3 cX0_broke 154 (.getfield 74) 157 := ⟨by decide +kernel, rfl⟩
theorem eX0_broke_157 : D1 cX0_broke 157 (.aload_n 0) 158 := ⟨by decide +kernel, rfl⟩
theorem eX0_broke_158 : D3 cX0_broke 158 (.getfield 394) 161 := ⟨by decide +kernel, rfl⟩
theorem eX0_broke_161 : D1 cX0_broke 161 (.iaload) 162 := ⟨by decide +kernel, rfl⟩
theorem eX0_broke_162 : D1 cX0_broke 162 (.ireturn) 163 := ⟨by decide +kernel, rfl⟩
theorem eX0_outing_0 : D1 cX0_outing 0 (.iload_n 1) 1 := ⟨by decide +kernel, rfl⟩
theorem eX0_outing_1 : D1 cX0_outing 1 (.i2l) 2 := ⟨by decide +kernel, rfl⟩
theorem eX0_outing_2 : D1 cX0_outing 2 (.lconst 0) 3 := ⟨by decide +kernel, rfl⟩
theorem eX0_outing_3 : D1 cX0_outing 3 (.aload_n 0) 4 := ⟨by decide +kernel, rfl⟩
theorem eX0_outing_4 : D3 cX0_outing 4 (.getfield 388) 7 := ⟨by decide +kernel, rfl⟩
theorem eX0_outing_7 : DC cX0_outing 7 (1) 8 := Or.inl ⟨1, ⟨by decide +kernel, rfl⟩, by decide⟩
theorem eX0_outing_8 : D1 cX0_outing 8 (.isub) 9 := ⟨by decide +kernel, rfl⟩
theorem eX0_outing_9 : D1 cX0_outing 9 (.i2l) 10 := ⟨by decide +kernel, rfl⟩
theorem eX0_outing_10 : D3 cX0_outing 10 (.invokestatic 103) 13 := ⟨by decide +kernel, rfl⟩
theorem eX0_outing_13 : DJ cX0_outing 13 (.ifCond .ne) 18 16 := ⟨5, by decide +kernel, by decide, rfl⟩
theorem eX0_outing_16 : DC cX0_outing 16 (-1) 17 := Or.inl ⟨-1, ⟨by decide +kernel, rfl⟩, by decide⟩
theorem eX0_outing_17 : D1 cX0_outing 17 (.ireturn) 18 := ⟨by decide +kernel, rfl⟩
theorem eX0_outing_18 : D1 cX0_outing 18 (.iload_n 2) 19 := ⟨by decide +kernel, rfl⟩
theorem eX0_outing_19 : DJ cX0_outing 19 (.ifCond .ne) 31 22 := ⟨12, by decide +kernel, by decide, rfl⟩
theorem eX0_outing_22 : D1 cX0_outing 22 (.aload_n 0) 23 := ⟨by decide +kernel, rfl⟩
theorem eX0_outing_23 : D3 cX0_outing 23 (.getfield 65) 26 := ⟨by decide +kernel, rfl⟩
theorem eX0_outing_26 : D1 cX0_outing 26 (.iload_n 1) 27 := ⟨by decide +kernel, rfl⟩
theorem eX0_outing_27 : D1 cX0_outing 27 (.iaload) 28 := ⟨by decide +kernel, rfl⟩
theorem eX0_outing_28 : DJ cX0_outing 28 .goto 74 31 := ⟨46, by decide +kernel, by decide, rfl⟩
theorem eX0_outing_31 : D1 cX0_outing 31 (.iload_n 2) 32 := ⟨by decide +kernel, rfl⟩
theorem eX0_outing_32 : DC cX0_outing 32 (1) 33 := Or.inl ⟨1, ⟨by decide +kernel, rfl⟩, by decide⟩
theorem eX0_outing_33 : DJ cX0_outing 33 (.if_icmp .ne) 45 36 := ⟨12, by decide +kernel, by decide, rfl⟩
theorem eX0_outing_36 : D1 cX0_outing 36 (.aload_n 0) 37 := ⟨by decide +kernel, rfl⟩
theorem eX0_outing_37 : D3 cX0_outing 37 (.getfield 68) 40 := ⟨by decide +kernel, rfl⟩
theorem eX0_outing_40 : D1 cX0_outing 40 (.iload_n 1) 41 := ⟨by decide +kernel, rfl⟩
theorem eX0_outing_41 : D1 cX0_outing 41 (.iaload) 42 := ⟨by decide +kernel, rfl⟩
theorem eX0_outing_42 : DJ cX0_outing 42 .goto 74 45 := ⟨32, by decide +kernel, by decide, rfl⟩
theorem eX0_outing_45 : D1 cX0_outing 45 (.iload_n 2) 46 := ⟨by decide +kernel, rfl⟩
theorem eX0_outing_46 : DC cX0_outing 46 (2) 47 := Or.inl ⟨2, ⟨by decide +kernel, rfl⟩, by decide⟩
theorem eX0_outing_47 : DJ cX0_outing 47 (.if_icmp .ne) 59 50 := ⟨12, by decide +kernel, by decide, rfl⟩
theorem eX0_outing_50 : D1 cX0_outing 50 (.aload_n 0) 51 := ⟨by decide +kernel, rfl⟩
theorem eX0_outing_51 : D3 cX0_outing 51 (.getfield 71) 54 := ⟨by decide +kernel, rfl⟩
theorem eX0_outing_54 : D1 cX0_outing 54 (.iload_n 1) 55 := ⟨by decide +kernel, rfl⟩
theorem eX0_outing_55 : D1 cX0_outing 55 (.iaload) 56 := ⟨by decide +kernel, rfl⟩
theorem eX0_outing_56 : DJ cX0_outing 56 .goto 74 59 := ⟨18, by decide +kernel, by decide, rfl⟩
theorem eX0_outing_59 : D1 cX0_outing 59 (.iload_n 2) 60 := ⟨by decide +kernel, rfl⟩
theorem eX0_outing_60 : DC cX0_outing 60 (3) 61 := Or.inl ⟨3, ⟨by decide +kernel, rfl⟩, by decide⟩
theorem eX0_outing_61 : DJ cX0_outing 61 (.if_icmp .ne) 73 64 := ⟨12, by decide +kernel, by decide, rfl⟩
theorem eX0_outing_64 : D1 cX0_outing 64 (.aload_n 0) 65 := ⟨by decide +kernel, rfl⟩
theorem eX0_outing_65 : D3 cX0_outing 65 (.getfield 74) 68 := ⟨by decide +kernel, rfl⟩
theorem eX0_outing_68 : D1 cX0_outing 68 (.iload_n 1) 69 := ⟨by decide +kernel, rfl⟩
theorem eX0_outing_69 : D1 cX0_outing 69 (.iaload) 70 := ⟨by decide +kernel, rfl⟩
theorem eX0_outing_70 : DJ cX0_outing 70 .goto 74 73 := ⟨4, by decide +kernel, by decide, rfl⟩
theorem eX0_outing_73 : DC cX0_outing 73 (-1) 74 := Or.inl ⟨-1, ⟨by decide +kernel, rfl⟩, by decide⟩
theorem eX0_outing_74 : D1 cX0_outing 74 (.ireturn) 75 := ⟨by decide +kernel, rfl⟩
theorem eX0_heat_0 : D1 cX0_heat 0 (.aload_n 0) 1 := ⟨by decide +kernel, rfl⟩
theorem eX0_heat_1 : D1 cX0_heat 1 (.iload_n 1) 2 := ⟨by decide +kernel, rfl⟩
theorem eX0_heat_2 : D3 cX0_heat 2 (.invokevirtual 110) 5 := ⟨by decide +kernel, rfl⟩
theorem eX0_heat_5 : DJ cX0_heat 5 (.ifCond .ne) 10 8 := ⟨5, by decide +kernel, by decide, rfl⟩
theorem eX0_heat_8 : DC cX0_heat 8 (-1) 9 := Or.inl ⟨-1, ⟨by decide +kernel, rfl⟩, by decide⟩
theorem eX0_heat_9 : D1 cX0_heat 9 (.ireturn) 10 := ⟨by decide +kernel, rfl⟩
theorem eX0_heat_10 : D1 cX0_heat 10 (.iload_n 2) 11 := ⟨by decide +kernel, rfl⟩
theorem eX0_heat_11 : D1 cX0_heat 11 (.i2l) 12 := ⟨by decide +kernel, rfl⟩
theorem eX0_heat_12 : D1 cX0_heat 12 (.lconst 0) 13 := ⟨by decide +kernel, rfl⟩
theorem eX0_heat_13 : D3 cX0_heat 13 (.ldc2_w 403) 16 := ⟨by decide +kernel, rfl⟩
theorem eX0_heat_16 : D3 cX0_heat 16 (.invokestatic 103) 19 := ⟨by decide +kernel, rfl⟩
theorem eX0_heat_19 : DJ cX0_heat 19 (.ifCond .ne) 25 22 := ⟨6, by decide +kernel, by decide, rfl⟩
theorem eX0_heat_22 : DC cX0_heat 22 (-2) 24 := Or.inr (Or.inl ⟨-2, ⟨by decide +kernel, rfl⟩, by decide⟩)
theorem eX0_heat_24 : D1 cX0_heat 24 (.ireturn) 25 := ⟨by decide +kernel, rfl⟩
theorem eX0_heat_25 : D1 cX0_heat 25 (.aload_n 0) 26 := ⟨by decide +kernel, rfl⟩
theorem eX0_heat_26 : D3 cX0_heat 26 (.getfield 405) 29 := ⟨by decide +kernel, rfl⟩
theorem eX0_heat_29 : DC cX0_heat 29 (20) 31 := Or.inr (Or.inl ⟨20, ⟨by decide +kernel, rfl⟩, by decide⟩)
theorem eX0_heat_31 : DJ cX0_heat 31 (.if_icmp .ne) 37 34 := ⟨6, by decide +kernel, by decide, rfl⟩
theorem eX0_heat_34 : DC cX0_heat 34 (-4) 36 := Or.inr (Or.inl ⟨-4, ⟨by decide +kernel, rfl⟩, by decide⟩)
theorem eX0_heat_36 : D1 cX0_heat 36 (.ireturn) 37 := ⟨by decide +kernel, rfl⟩
theorem eX0_heat_37 : D1 cX0_heat 37 (.aload_n 0) 38 := ⟨by decide +kernel, rfl⟩
theorem eX0_heat_38 : D3 cX0_heat 38 (.getfield 90) 41 := ⟨by decide +kernel, rfl⟩
theorem eX0_heat_41 : D1 cX0_heat 41 (.aload_n 0) 42 := ⟨by decide +kernel, rfl⟩
theorem eX0_heat_42 : D3 cX0_heat 42 (.getfield 405) 45 := ⟨by decide +kernel, rfl⟩
theorem eX0_heat_45 : D1 cX0_heat 45 (.iload_n 1) 46 := ⟨by decide +kernel, rfl⟩
theorem eX0_heat_46 : D1 cX0_heat 46 (.iastore) 47 := ⟨by decide +kernel, rfl⟩
theorem eX0_heat_47 : D1 cX0_heat 47 (.aload_n 0) 48 := ⟨by decide +kernel, rfl⟩
theorem eX0_heat_48 : D3 cX0_heat 48 (.getfield 87) 51 := ⟨by decide +kernel, rfl⟩
theorem eX0_heat_51 : D1 cX0_heat 51 (.aload_n 0) 52 := ⟨by decide +kernel, rfl⟩
theorem eX0_heat_52 : D3 cX0_heat 52 (.getfield 405) 55 := ⟨by decide +kernel, rfl⟩
theorem eX0_heat_55 : D1 cX0_heat 55 (.iload_n 2) 56 := ⟨by decide +kernel, rfl⟩
theorem eX0_heat_56 : D1 cX0_heat 56 (.iastore) 57 := ⟨by decide +kernel, rfl⟩
theorem eX0_heat_57 : D1 cX0_heat 57 (.aload_n 0) 58 := ⟨by decide +kernel, rfl⟩
theorem eX0_heat_58 : D1 cX0_heat 58 (.dup) 59 := ⟨by decide +kernel, rfl⟩
theorem eX0_heat_59 : D3 cX0_heat 59 (.getfield 405) 62 := ⟨by decide +kernel, rfl⟩
theorem eX0_heat_62 : DC cX0_heat 62 (1) 63 := Or.inl ⟨1, ⟨by decide +kernel, rfl⟩, by decide⟩
theorem eX0_heat_63 : D1 cX0_heat 63 (.iadd) 64 := ⟨by decide +kernel, rfl⟩
theorem eX0_heat_64 : D3 cX0_heat 64 (.putfield 405) 67 := ⟨by decide +kernel, rfl⟩
theorem eX0_heat_67 : D1 cX0_heat 67 (.aload_n 0) 68 := ⟨by decide +kernel, rfl⟩
theorem eX0_heat_68 : D3 cX0_heat 68 (.getfield 405) 71 := ⟨by decide +kernel, rfl⟩
theorem eX0_heat_71 : DC cX0_heat 71 (1) 72 := Or.inl ⟨1, ⟨by decide +kernel, rfl⟩, by decide⟩
theorem eX0_heat_72 : D1 cX0_heat 72 (.isub) 73 := ⟨by decide +kernel, rfl⟩
theorem eX0_heat_73 : D1 cX0_heat 73 (.ireturn) 74 := ⟨by decide +kernel, rfl⟩
theorem eX0_near_0 : D1 cX0_near 0 (.iload_n 1) 1 := ⟨by decide +kernel, rfl⟩
theorem eX0_near_1 : D1 cX0_near 1 (.i2l) 2 := ⟨by decide +kernel, rfl⟩
theorem eX0_near_2 : D1 cX0_near 2 (.lconst 0) 3 := ⟨by decide +kernel, rfl⟩
theorem eX0_near_3 : D3 cX0_near 3 (.ldc2_w 205) 6 := ⟨by decide +kernel, rfl⟩
theorem eX0_near_6 : D3 cX0_near 6 (.invokestatic 103) 9 := ⟨by decide +kernel, rfl⟩
theorem eX0_near_9 : DJ cX0_near 9 (.ifCond .ne) 15 12 := ⟨6, by decide +kernel, by decide, rfl⟩
theorem eX0_near_12 : DC cX0_near 12 (-2) 14 := Or.inr (Or.inl ⟨-2, ⟨by decide +kernel, rfl⟩, by decide⟩)
theorem eX0_near_14 : D1 cX0_near 14 (.ireturn) 15 := ⟨by decide +kernel, rfl⟩
theorem eX0_near_15 : D1 cX0_near 15 (.aload_n 0) 16 := ⟨by decide +kernel, rfl⟩
theorem eX0_near_16 : D3 cX0_near 16 (.getfield 93) 19 := ⟨by decide +kernel, rfl⟩
theorem eX0_near_19 : D1 cX0_near 19 (.istore_n 2) 20 := ⟨by decide +kernel, rfl⟩
theorem eX0_near_20 : D1 cX0_near 20 (.aload_n 0) 21 := ⟨by decide +kernel, rfl⟩
theorem eX0_near_21 : D1 cX0_near 21 (.iload_n 1) 22 := ⟨by decide +kernel, rfl⟩
theorem eX0_near_22 : D3 cX0_near 22 (.putfield 93) 25 := ⟨by decide +kernel, rfl⟩
theorem eX0_near_25 : D1 cX0_near 25 (.iload_n 2) 26 := ⟨by decide +kernel, rfl⟩
theorem eX0_near_26 : D1 cX0_near 26 (.ireturn) 27 := ⟨by decide +kernel, rfl⟩
theorem eX0_shares_0 : DC cX0_shares 0 (0) 1 := Or.inl ⟨0, ⟨by decide +kernel, rfl⟩, by decide⟩
theorem eX0_shares_1 : D1 cX0_shares 1 (.istore_n 3) 2 := ⟨by decide +kernel, rfl⟩
theorem eX0_shares_2 : D1 cX0_shares 2 (.iload_n 3) 3 := ⟨by decide +kernel, rfl⟩
theorem eX0_shares_3 : DC cX0_shares 3 (8) 5 := Or.inr (Or.inl ⟨8, ⟨by decide +kernel, rfl⟩, by decide⟩)
theorem eX0_shares_5 : DJ cX0_shares 5 (.if_icmp .gt) 40 8 := ⟨35, by decide +kernel, by decide, rfl⟩
theorem eX0_shares_8 : D1 cX0_shares 8 (.aload_n 1) 9 := ⟨by decide +kernel, rfl⟩
theorem eX0_shares_9 : D3 cX0_shares 9 (.getfield 167) 12 := ⟨by decide +kernel, rfl⟩
theorem eX0_shares_12 : D1 cX0_shares 12 (.iload_n 3) 13 := ⟨by decide +kernel, rfl⟩
theorem eX0_shares_13 : D1 cX0_shares 13 (.iaload) 14 := ⟨by decide +kernel, rfl⟩
theorem eX0_shares_14 : DC cX0_shares 14 (-1) 15 := Or.inl ⟨-1, ⟨by decide +kernel, rfl⟩, by decide⟩
theorem eX0_shares_15 : DJ cX0_shares 15 (.if_icmp .eq) 34 18 := ⟨19, by decide +kernel, by decide, rfl⟩
theorem eX0_shares_18 : D1 cX0_shares 18 (.aload_n 2) 19 := ⟨by decide +kernel, rfl⟩
theorem eX0_shares_19 : D1 cX0_shares 19 (.aload_n 1) 20 := ⟨by decide +kernel, rfl⟩
theorem eX0_shares_20 : D3 cX0_shares 20 (.getfield 167) 23 := ⟨by decide +kernel, rfl⟩
theorem eX0_shares_23 : D1 cX0_shares 23 (.iload_n 3) 24 := ⟨by decide +kernel, rfl⟩
theorem eX0_shares_24 : D1 cX0_shares 24 (.iaload) 25 := ⟨by decide +kernel, rfl⟩
theorem eX0_shares_25 : D3 cX0_shares 25 (.invokevirtual 174) 28 := ⟨by decide +kernel, rfl⟩
theorem eX0_shares_28 : DC cX0_shares 28 (-1) 29 := Or.inl ⟨-1, ⟨by decide +kernel, rfl⟩, by decide⟩
theorem eX0_shares_29 : DJ cX0_shares 29 (.if_icmp .eq) 34 32 := ⟨5, by decide +kernel, by decide, rfl⟩
theorem eX0_shares_32 : DC cX0_shares 32 (1) 33 := Or.inl ⟨1, ⟨by decide +kernel, rfl⟩, by decide⟩
theorem eX0_shares_33 : D1 cX0_shares 33 (.ireturn) 34 := ⟨by decide +kernel, rfl⟩
theorem eX0_shares_34 : D3 cX0_shares 34 (.iinc 3 1) 37 := ⟨by decide +kernel, rfl⟩
theorem eX0_shares_37 : DJ cX0_shares 37 .goto 2 40 := ⟨-35, by decide +kernel, by decide, rfl⟩
theorem eX0_shares_40 : D1 cX0_shares 40 (.aload_n 1) 41 := ⟨by decide +kernel, rfl⟩
theorem eX0_shares_41 : D1 cX0_shares 41 (.aload_n 2) 42 := ⟨by decide +kernel, rfl⟩
theorem eX0_shares_42 : DJ cX0_shares 42 (.if_acmp .ne) 49 45 := ⟨7, by decide +kernel, by decide, rfl⟩
theorem eX0_shares_45 : DC cX0_shares 45 (1) 46 := Or.inl ⟨1, ⟨by decide +kernel, rfl⟩, by decide⟩
theorem eX0_shares_46 : DJ cX0_shares 46 .goto 50 49 := ⟨4, by decide +kernel, by decide, rfl⟩
theorem eX0_shares_49 : DC cX0_shares 49 (0) 50 := Or.inl ⟨0, ⟨by decide +kernel, rfl⟩, by decide⟩
theorem eX0_shares_50 : D1 cX0_shares 50 (.ireturn) 51 := ⟨by decide +kernel, rfl⟩
theorem eX0_clash_0 : D1 cX0_clash 0 (.iload_n 1) 1 := ⟨by decide +kernel, rfl⟩
theorem eX0_clash_1 : D1 cX0_clash 1 (.iload_n 2) 2 := ⟨by decide +kernel, rfl⟩
theorem eX0_clash_2 : DJ cX0_clash 2 (.if_icmp .eq) 61 5 := ⟨59, by decide +kernel, by decide, rfl⟩
theorem eX0_clash_5 : D1 cX0_clash 5 (.aload_n 0) 6 := ⟨by decide +kernel, rfl⟩
theorem eX0_clash_6 : D3 cX0_clash 6 (.getfield 87) 9 := ⟨by decide +kernel, rfl⟩
theorem eX0_clash_9 : D1 cX0_clash 9 (.iload_n 1) 10 := ⟨by decide +kernel, rfl⟩
theorem eX0_clash_10 : D1 cX0_clash 10 (.iaload) 11 := ⟨by decide +kernel, rfl⟩
theorem eX0_clash_11 : D1 cX0_clash 11 (.aload_n 0) 12 := ⟨by decide +kernel, rfl⟩
theorem eX0_clash_12 : D3 cX0_clash 12 (.getfield 87) 15 := ⟨by decide +kernel, rfl⟩
theorem eX0_clash_15 : D1 cX0_clash 15 (.iload_n 2) 16 := ⟨by decide +kernel, rfl⟩
theorem eX0_clash_16 : D1 cX0_clash 16 (.iaload) 17 := ⟨by decide +kernel, rfl⟩
theorem eX0_clash_17 : D1 cX0_clash 17 (.isub) 18 := ⟨by decide +kernel, rfl⟩
theorem eX0_clash_18 : D3 cX0_clash 18 (.invokestatic 408) 21 := ⟨by decide +kernel, rfl⟩
theorem eX0_clash_21 : D1 cX0_clash 21 (.aload_n 0) 22 := ⟨by decide +kernel, rfl⟩
theorem eX0_clash_22 : D3 cX0_clash 22 (.getfield 93) 25 := ⟨by decide +kernel, rfl⟩
theorem eX0_clash_25 : DJ cX0_clash 25 (.if_icmp .ge) 61 28 := ⟨36, by decide +kernel, by decide, rfl⟩
theorem eX0_clash_28 : D1 cX0_clash 28 (.aload_n 0) 29 := ⟨by decide +kernel, rfl⟩
theorem eX0_clash_29 : D1 cX0_clash 29 (.aload_n 0) 30 := ⟨by decide +kernel, rfl⟩
theorem eX0_clash_30 : D3 cX0_clash 30 (.getfield 19) 33 := ⟨by decide +kernel, rfl⟩
theorem eX0_clash_33 : D1 cX0_clash 33 (.aload_n 0) 34 := ⟨by decide +kernel, rfl⟩
theorem eX0_clash_34 : D3 cX0_clash 34 (.getfield 90) 37 := ⟨by decide +kernel, rfl⟩
theorem eX0_clash_37 : D1 cX0_clash 37 (.iload_n 1) 38 := ⟨by decide +kernel, rfl⟩
theorem eX0_clash_38 : D1 cX0_clash 38 (.iaload) 39 := ⟨by decide +kernel, rfl⟩
theorem eX0_clash_39 : D1 cX0_clash 39 (.aaload) 40 := ⟨by decide +kernel, rfl⟩
theorem eX0_clash_40 : D1 cX0_clash 40 (.aload_n 0) 41 := ⟨by decide +kernel, rfl⟩
theorem eX0_clash_41 : D3 cX0_clash 41 (.getfield 19) 44 := ⟨by decide +kernel, rfl⟩
theorem eX0_clash_44 : D1 cX0_clash 44 (.aload_n 0) 45 := ⟨by decide +kernel, rfl⟩
theorem eX0_clash_45 : D3 cX0_clash 45 (.getfield 90) 48 := ⟨by decide +kernel, rfl⟩
theorem eX0_clash_48 : D1 cX0_clash 48 (.iload_n 2) 49 := ⟨by decide +kernel, rfl⟩
theorem eX0_clash_49 : D1 cX0_clash 49 (.iaload) 50 := ⟨by decide +kernel, rfl⟩
theorem eX0_clash_50 : D1 cX0_clash 50 (.aaload) 51 := ⟨by decide +kernel, rfl⟩
theorem eX0_clash_51 : D3 cX0_clash 51 (.invokevirtual 410) 54 := ⟨by decide +kernel, rfl⟩
theorem eX0_clash_54 : DJ cX0_clash 54 (.ifCond .eq) 61 57 := ⟨7, by decide +kernel, by decide, rfl⟩
theorem eX0_clash_57 : DC cX0_clash 57 (1) 58 := Or.inl ⟨1, ⟨by decide +kernel, rfl⟩, by decide⟩
theorem eX0_clash_58 : DJ cX0_clash 58 .goto 62 61 := ⟨4, by decide +kernel, by decide, rfl⟩
theorem eX0_clash_61 : DC cX0_clash 61 (0) 62 := Or.inl ⟨0, ⟨by decide +kernel, rfl⟩, by decide⟩
theorem eX0_clash_62 : D1 cX0_clash 62 (.ireturn) 63 := ⟨by decide +kernel, rfl⟩
theorem eX0_clashes_0 : DC cX0_clashes 0 (0) 1 := Or.inl ⟨0, ⟨by decide +kernel, rfl⟩, by decide⟩
theorem eX0_clashes_1 : D1 cX0_clashes 1 (.istore_n 1) 2 := ⟨by decide +kernel, rfl⟩
theorem eX0_clashes_2 : DC cX0_clashes 2 (0) 3 := Or.inl ⟨0, ⟨by decide +kernel, rfl⟩, by decide⟩
theorem eX0_clashes_3 : D1 cX0_clashes 3 (.istore_n 2) 4 := ⟨by decide +kernel, rfl⟩
theorem eX0_clashes_4 : D1 cX0_clashes 4 (.iload_n 2) 5 := ⟨by decide +kernel, rfl⟩
theorem eX0_clashes_5 : D1 cX0_clashes 5 (.aload_n 0) 6 := ⟨by decide +kernel, rfl⟩
theorem eX0_clashes_6 : D3 cX0_clashes 6 (.getfield 405) 9 := ⟨by decide +kernel, rfl⟩
theorem eX0_clashes_9 : DJ cX0_clashes 9 (.if_icmp .ge) 48 12 := ⟨39, by decide +kernel, by decide, rfl⟩
theorem eX0_clashes_12 : D1 cX0_clashes 12 (.iload_n 2) 13 := ⟨by decide +kernel, rfl⟩
theorem eX0_clashes_13 : DC cX0_clashes 13 (1) 14 := Or.inl ⟨1, ⟨by decide +kernel, rfl⟩, by decide⟩
theorem eX0_clashes_14 : D1 cX0_clashes 14 (.iadd) 15 := ⟨by decide +kernel, rfl⟩
theorem eX0_clashes_15 : D1 cX0_clashes 15 (.istore_n 3) 16 := ⟨by decide +kernel, rfl⟩
theorem eX0_clashes_16 : D1 cX0_clashes 16 (.iload_n 3) 17 := ⟨by decide +kernel, rfl⟩
theorem eX0_clashes_17 : D1 cX0_clashes 17 (.aload_n 0) 18 := ⟨by decide +kernel, rfl⟩
theorem eX0_clashes_18 : D3 cX0_clashes 18 (.getfield 405) 21 := ⟨by decide +kernel, rfl⟩
theorem eX0_clashes_21 : DJ cX0_clashes 21 (.if_icmp .ge) 42 24 := ⟨21, by decide +kernel, by decide, rfl⟩
theorem eX0_clashes_24 : D1 cX0_clashes 24 (.aload_n 0) 25 := ⟨by decide +kernel, rfl⟩
theorem eX0_clashes_25 : D1 cX0_clashes 25 (.iload_n 2) 26 := ⟨by decide +kernel, rfl⟩
theorem eX0_clashes_26 : D1 cX0_clashes 26 (.iload_n 3) 27 := ⟨by decide +kernel, rfl⟩
theorem eX0_clashes_27 : D3 cX0_clashes 27 (.invokevirtual 414) 30 := ⟨by decide +kernel, rfl⟩
theorem eX0_clashes_30 : DJ cX0_clashes 30 (.ifCond .eq) 36 33 := ⟨6, by decide +kernel, by decide, rfl⟩
theorem eX0_clashes_33 : D3 cX0_clashes 33 (.iinc 1 1) 36 := ⟨by decide +kernel, rfl⟩
theorem eX0_clashes_36 : D3 cX0_clashes 36 (.iinc 3 1) 39 := ⟨by decide +kernel, rfl⟩
theorem eX0_clashes_39 : DJ cX0_clashes 39 .goto 16 42 := ⟨-23, by decide +kernel, by decide, rfl⟩
theorem eX0_clashes_42 : D3 cX0_clashes 42 (.iinc 2 1) 45 := ⟨by decide +kernel, rfl⟩
theorem eX0_clashes_45 : DJ cX0_clashes 45 .goto 4 48 := ⟨-41, by decide +kernel, by decide, rfl⟩
theorem eX0_clashes_48 : D1 cX0_clashes 48 (.iload_n 1) 49 := ⟨by decide +kernel, rfl⟩
theorem eX0_clashes_49 : D1 cX0_clashes 49 (.ireturn) 50 := ⟨by decide +kernel, rfl⟩
theorem eX0_shift_0 : D1 cX0_shift 0 (.iload_n 1) 1 := ⟨by decide +kernel, rfl⟩
theorem eX0_shift_1 : D1 cX0_shift 1 (.i2l) 2 := ⟨by decide +kernel, rfl⟩
theorem eX0_shift_2 : D1 cX0_shift 2 (.lconst 0) 3 := ⟨by decide +kernel, rfl⟩
theorem eX0_shift_3 : D1 cX0_shift 3 (.aload_n 0) 4 := ⟨by decide +kernel, rfl⟩
theorem eX0_shift_4 : D3 cX0_shift 4 (.getfield 405) 7 := ⟨by decide +kernel, rfl⟩
theorem eX0_shift_7 : DC cX0_shift 7 (1) 8 := Or.inl ⟨1, ⟨by decide +kernel, rfl⟩, by decide⟩
theorem eX0_shift_8 : D1 cX0_shift 8 (.isub) 9 := ⟨by decide +kernel, rfl⟩
theorem eX0_shift_9 : D1 cX0_shift 9 (.i2l) 10 := ⟨by decide +kernel, rfl⟩
theorem eX0_shift_10 : D3 cX0_shift 10 (.invokestatic 103) 13 := ⟨by decide +kernel, rfl⟩
theorem eX0_shift_13 : DJ cX0_shift 13 (.ifCond .ne) 18 16 := ⟨5, by decide +kernel, by decide, rfl⟩
theorem eX0_shift_16 : DC cX0_shift 16 (-1) 17 := Or.inl ⟨-1, ⟨by decide +kernel, rfl⟩, by decide⟩
theorem eX0_shift_17 : D1 cX0_shift 17 (.ireturn) 18 := ⟨by decide +kernel, rfl⟩
theorem eX0_shift_18 : D1 cX0_shift 18 (.aload_n 0) 19 := ⟨by decide +kernel, rfl⟩
theorem eX0_shift_19 : D3 cX0_shift 19 (.getfield 87) 22 := ⟨by decide +kernel, rfl⟩
theorem eX0_shift_22 : D1 cX0_shift 22 (.iload_n 1) 23 := ⟨by decide +kernel, rfl⟩
theorem eX0_shift_23 : D1 cX0_shift 23 (.iaload) 24 := ⟨by decide +kernel, rfl⟩
theorem eX0_shift_24 : D1 cX0_shift 24 (.istore_n 2) 25 := ⟨by decide +kernel, rfl⟩
theorem eX0_shift_25 : DC cX0_shift 25 (-1) 26 := Or.inl ⟨-1, ⟨by decide +kernel, rfl⟩, by decide⟩
theorem eX0_shift_26 : D1 cX0_shift 26 (.istore_n 3) 27 := ⟨by decide +kernel, rfl⟩
theorem eX0_shift_27 : D1 cX0_shift 27 (.iload_n 2) 28 := ⟨by decide +kernel, rfl⟩
theorem eX0_shift_28 : D2 cX0_shift 28 (.istore 4) 30 := ⟨by decide +kernel, rfl⟩
theorem eX0_shift_30 : D2 cX0_shift 30 (.iload 4) 32 := ⟨by decide +kernel, rfl⟩
theorem eX0_shift_32 : DC cX0_shift 32 (1440) 35 := Or.inr (Or.inr ⟨1440, ⟨by decide +kernel, rfl⟩, by decide⟩)
theorem eX0_shift_35 : DJ cX0_shift 35 (.if_icmp .ge) 98 38 := ⟨63, by decide +kernel, by decide, rfl⟩
theorem eX0_shift_38 : D1 cX0_shift 38 (.iload_n 3) 39 := ⟨by decide +kernel, rfl⟩
theorem eX0_shift_39 : DC cX0_shift 39 (-1) 40 := Or.inl ⟨-1, ⟨by decide +kernel, rfl⟩, by decide⟩
theorem eX0_shift_40 : DJ cX0_shift 40 (.if_icmp .ne) 98 43 := ⟨58, by decide +kernel, by decide, rfl⟩
theorem eX0_shift_43 : D1 cX0_shift 43 (.aload_n 0) 44 := ⟨by decide +kernel, rfl⟩
theorem eX0_shift_44 : D3 cX0_shift 44 (.getfield 87) 47 := ⟨by decide +kernel, rfl⟩
theorem eX0_shift_47 : D1 cX0_shift 47 (.iload_n 1) 48 := ⟨by decide +kernel, rfl⟩
theorem eX0_shift_48 : D2 cX0_shift 48 (.iload 4) 50 := ⟨by decide +kernel, rfl⟩
theorem eX0_shift_50 : D1 cX0_shift 50 (.iastore) 51 := ⟨by decide +kernel, rfl⟩
theorem eX0_shift_51 : DC cX0_shift 51 (0) 52 := Or.inl ⟨0, ⟨by decide +kernel, rfl⟩, by decide⟩
theorem eX0_shift_52 : D2 cX0_shift 52 (.istore 5) 54 := ⟨by decide +kernel, rfl⟩
theorem eX0_shift_54 : DC cX0_shift 54 (0) 55 := Or.inl ⟨0, ⟨by decide +kernel, rfl⟩, by decide⟩
theorem eX0_shift_55 : D2 cX0_shift 55 (.istore 6) 57 := ⟨by decide +kernel, rfl⟩
theorem eX0_shift_57 : D2 cX0_shift 57 (.iload 6) 59 := ⟨by decide +kernel, rfl⟩
theorem eX0_shift_59 : D1 cX0_shift 59 (.aload_n 0) 60 := ⟨by decide +kernel, rfl⟩
theorem eX0_shift_60 : D3 cX0_shift 60 (.getfield 405) 63 := ⟨by decide +kernel, rfl⟩
theorem eX0_shift_63 : DJ cX0_shift 63 (.if_icmp .ge) 84 66 := ⟨21, by decide +kernel, by decide, rfl⟩
theorem eX0_shift_66 : D2 cX0_shift 66 (.iload 5) 68 := ⟨by decide +kernel, rfl⟩
theorem eX0_shift_68 : D1 cX0_shift 68 (.aload_n 0) 69 := ⟨by decide +kernel, rfl⟩
theorem eX0_shift_69 : D1 cX0_shift 69 (.iload_n 1) 70 := ⟨by decide +kernel, rfl⟩
theorem eX0_shift_70 : D2 cX0_shift 70 (.iload 6) 72 := ⟨by decide +kernel, rfl⟩
theorem eX0_shift_72 : D3 cX0_shift 72 (.invokevirtual 414) 75 := ⟨by decide +kernel, rfl⟩
theorem eX0_shift_75 : D1 cX0_shift 75 (.ior) 76 := ⟨by decide +kernel, rfl⟩
theorem eX0_shift_76 : D2 cX0_shift 76 (.istore 5) 78 := ⟨by decide +kernel, rfl⟩
theorem eX0_shift_78 : D3 cX0_shift 78 (.iinc 6 1) 81 := ⟨by decide +kernel, rfl⟩
theorem eX0_shift_81 : DJ cX0_shift 81 .goto 57 84 := ⟨-24, by decide +kernel, by decide, rfl⟩
theorem eX0_shift_84 : D2 cX0_shift 84 (.iload 5) 86 := ⟨by decide +kernel, rfl⟩
theorem eX0_shift_86 : DJ cX0_shift 86 (.ifCond .ne) 92 89 := ⟨6, by decide +kernel, by decide, rfl⟩
theorem eX0_shift_89 : D2 cX0_shift 89 (.iload 4) 91 := ⟨by decide +kernel, rfl⟩
theorem eX0_shift_91 : D1 cX0_shift 91 (.istore_n 3) 92 := ⟨by decide +kernel, rfl⟩
theorem eX0_shift_92 : D3 cX0_shift 92 (.iinc 4 1) 95 := ⟨by decide +kernel, rfl⟩
theorem eX0_shift_95 : DJ cX0_shift 95 .goto 30 98 := ⟨-65, by decide +kernel, by decide, rfl⟩
theorem eX0_shift_98 : D1 cX0_shift 98 (.aload_n 0) 99 := ⟨by decide +kernel, rfl⟩
theorem eX0_shift_99 : D3 cX0_shift 99 (.getfield 87) 102 := ⟨by decide +kernel, rfl⟩
theorem eX0_shift_102 : D1 cX0_shift 102 (.iload_n 1) 103 := ⟨by decide +kernel, rfl⟩
theorem eX0_shift_103 : D1 cX0_shift 103 (.iload_n 2) 104 := ⟨by decide +kernel, rfl⟩
theorem eX0_shift_104 : D1 cX0_shift 104 (.iastore) 105 := ⟨by decide +kernel, rfl⟩
theorem eX0_shift_105 : D1 cX0_shift 105 (.iload_n 3) 106 := ⟨by decide +kernel, rfl⟩
theorem eX0_shift_106 : DC cX0_shift 106 (-1) 107 := Or.inl ⟨-1, ⟨by decide +kernel, rfl⟩, by decide⟩
theorem eX0_shift_107 : DJ cX0_shift 107 (.if_icmp .ne) 115 110 := ⟨8, by decide +kernel, by decide, rfl⟩
theorem eX0_shift_110 : DC cX0_shift 110 (-3) 112 := Or.inr (Or.inl ⟨-3, ⟨by decide +kernel, rfl⟩, by decide⟩)
theorem eX0_shift_112 : DJ cX0_shift 112 .goto 116 115 := ⟨4, by decide +kernel, by decide, rfl⟩
theorem eX0_shift_115 : D1 cX0_shift 115 (.iload_n 3) 116 := ⟨by decide +kernel, rfl⟩
theorem eX0_shift_116 : D1 cX0_shift 116 (.ireturn) 117 := ⟨by decide +kernel, rfl⟩
theorem eX0_trailer_0 : D1 cX0_trailer 0 (.iload_n 1) 1 := ⟨by decide +kernel, rfl⟩
theorem eX0_trailer_1 : DJ cX0_trailer 1 (.ifCond .lt) 25 4 := ⟨24, by decide +kernel, by decide, rfl⟩
theorem eX0_trailer_4 : D1 cX0_trailer 4 (.iload_n 1) 5 := ⟨by decide +kernel, rfl⟩
theorem eX0_trailer_5 : D1 cX0_trailer 5 (.aload_n 0) 6 := ⟨by decide +kernel, rfl⟩
theorem eX0_trailer_6 : D3 cX0_trailer 6 (.getfield 107) 9 := ⟨by decide +kernel, rfl⟩
theorem eX0_trailer_9 : D1 cX0_trailer 9 (.ishr) 10 := ⟨by decide +kernel, rfl⟩
theorem eX0_trailer_10 : DJ cX0_trailer 10 (.ifCond .ne) 25 13 := ⟨15, by decide +kernel, by decide, rfl⟩
theorem eX0_trailer_13 : D1 cX0_trailer 13 (.iload_n 2) 14 := ⟨by decide +kernel, rfl⟩
theorem eX0_trailer_14 : D1 cX0_trailer 14 (.i2l) 15 := ⟨by decide +kernel, rfl⟩
theorem eX0_trailer_15 : D1 cX0_trailer 15 (.lconst 1) 16 := ⟨by decide +kernel, rfl⟩
theorem eX0_trailer_16 : D3 cX0_trailer 16 (.ldc2_w 205) 19 := ⟨by decide +kernel, rfl⟩
theorem eX0_trailer_19 : D3 cX0_trailer 19 (.invokestatic 103) 22 := ⟨by decide +kernel, rfl⟩
theorem eX0_trailer_22 : DJ cX0_trailer 22 (.ifCond .ne) 28 25 := ⟨6, by decide +kernel, by decide, rfl⟩
theorem eX0_trailer_25 : DC cX0_trailer 25 (-2) 27 := Or.inr (Or.inl ⟨-2, ⟨by decide +kernel, rfl⟩, by decide⟩)
theorem eX0_trailer_27 : D1 cX0_trailer 27 (.ireturn) 28 := ⟨by decide +kernel, rfl⟩
theorem eX0_trailer_28 : DC cX0_trailer 28 (-1) 29 := Or.inl ⟨-1, ⟨by decide +kernel, rfl⟩, by decide⟩
theorem eX0_trailer_29 : D1 cX0_trailer 29 (.istore_n 3) 30 := ⟨by decide +kernel, rfl⟩
theorem eX0_trailer_30 : DC cX0_trailer 30 (1) 31 := Or.inl ⟨1, ⟨by decide +kernel, rfl⟩, by decide⟩
theorem eX0_trailer_31 : D2 cX0_trailer 31 (.istore 4) 33 := ⟨by decide +kernel, rfl⟩
theorem eX0_trailer_33 : DC cX0_trailer 33 (0) 34 := Or.inl ⟨0, ⟨by decide +kernel, rfl⟩, by decide⟩
theorem eX0_trailer_34 : D2 cX0_trailer 34 (.istore 5) 36 := ⟨by decide +kernel, rfl⟩
theorem eX0_trailer_36 : D2 cX0_trailer 36 (.iload 5) 38 := ⟨by decide +kernel, rfl⟩
theorem eX0_trailer_38 : D1 cX0_trailer 38 (.aload_n 0) 39 := ⟨by decide +kernel, rfl⟩
theorem eX0_trailer_39 : D3 cX0_trailer 39 (.getfield 107) 42 := ⟨by decide +kernel, rfl⟩
theorem eX0_trailer_42 : DJ cX0_trailer 42 (.if_icmp .ge) 67 45 := ⟨25, by decide +kernel, by decide, rfl⟩
theorem eX0_trailer_45 : D1 cX0_trailer 45 (.iload_n 1) 46 := ⟨by decide +kernel, rfl⟩
theorem eX0_trailer_46 : D2 cX0_trailer 46 (.iload 5) 48 := ⟨by decide +kernel, rfl⟩
theorem eX0_trailer_48 : D1 cX0_trailer 48 (.ishr) 49 := ⟨by decide +kernel, rfl⟩
theorem eX0_trailer_49 : DC cX0_trailer 49 (1) 50 := Or.inl ⟨1, ⟨by decide +kernel, rfl⟩, by decide⟩
theorem eX0_trailer_50 : D1 cX0_trailer 50 (.iand) 51 := ⟨by decide +kernel, rfl⟩
theorem eX0_trailer_51 : DC cX0_trailer 51 (1) 52 := Or.inl ⟨1, ⟨by decide +kernel, rfl⟩, by decide⟩
theorem eX0_trailer_52 : DJ cX0_trailer 52 (.if_icmp .ne) 61 55 := ⟨9, by decide +kernel, by decide, rfl⟩
theorem eX0_trailer_55 : D2 cX0_trailer 55 (.iload 4) 57 := ⟨by decide +kernel, rfl⟩
theorem eX0_trailer_57 : DC cX0_trailer 57 (3) 58 := Or.inl ⟨3, ⟨by decide +kernel, rfl⟩, by decide⟩
theorem eX0_trailer_58 : D1 cX0_trailer 58 (.imul) 59 := ⟨by decide +kernel, rfl⟩
theorem eX0_trailer_59 : D2 cX0_trailer 59 (.istore 4) 61 := ⟨by decide +kernel, rfl⟩
theorem eX0_trailer_61 : D3 cX0_trailer 61 (.iinc 5 1) 64 := ⟨by decide +kernel, rfl⟩
theorem eX0_trailer_64 : DJ cX0_trailer 64 .goto 36 67 := ⟨-28, by decide +kernel, by decide, rfl⟩
theorem eX0_trailer_67 : DC cX0_trailer 67 (0) 68 := Or.inl ⟨0, ⟨by decide +kernel, rfl⟩, by decide⟩
theorem eX0_trailer_68 : D2 cX0_trailer 68 (.istore 5) 70 := ⟨by decide +kernel, rfl⟩
theorem eX0_trailer_70 : D2 cX0_trailer 70 (.iload 5) 72 := ⟨by decide +kernel, rfl⟩
theorem eX0_trailer_72 : D2 cX0_trailer 72 (.iload 4) 74 := ⟨by decide +kernel, rfl⟩
theorem eX0_trailer_74 : DJ cX0_trailer 74 (.if_icmp .ge) 224 77 := ⟨150, by decide +kernel, by decide, rfl⟩
theorem eX0_trailer_77 : DC cX0_trailer 77 (0) 78 := Or.inl ⟨0, ⟨by decide +kernel, rfl⟩, by decide⟩
theorem eX0_trailer_78 : D2 cX0_trailer 78 (.istore 6) 80 := ⟨by decide +kernel, rfl⟩
theorem eX0_trailer_80 : D2 cX0_trailer 80 (.iload 6) 82 := ⟨by decide +kernel, rfl⟩
theorem eX0_trailer_82 : DC cX0_trailer 82 (3) 83 := Or.inl ⟨3, ⟨by decide +kernel, rfl⟩, by decide⟩
theorem eX0_trailer_83 : DJ cX0_trailer 83 (.if_icmp .ge) 100 86 := ⟨17, by decide +kernel, by decide, rfl⟩
theorem eX0_trailer_86 : D1 cX0_trailer 86 (.aload_n 0) 87 := ⟨by decide +kernel, rfl⟩
theorem eX0_trailer_87 : D3 cX0_trailer 87 (.getfield 97) 90 := ⟨by decide +kernel, rfl⟩
theorem eX0_trailer_90 : D2 cX0_trailer 90 (.iload 6) 92 := ⟨by decide +kernel, rfl⟩
theorem eX0_trailer_92 : DC cX0_trailer 92 (0) 93 := Or.inl ⟨0, ⟨by decide +kernel, rfl⟩, by decide⟩
theorem eX0_trailer_93 : D1 cX0_trailer 93 (.iastore) 94 := ⟨by decide +kernel, rfl⟩
theorem eX0_trailer_94 : D3 cX0_trailer 94 (.iinc 6 1) 97 := ⟨by decide +kernel, rfl⟩
theorem eX0_trailer_97 : DJ cX0_trailer 97 .goto 80 100 := ⟨-17, by decide +kernel, by decide, rfl⟩
theorem eX0_trailer_100 : D2 cX0_trailer 100 (.iload 5) 102 := ⟨by decide +kernel, rfl⟩
theorem eX0_trailer_102 : D2 cX0_trailer 102 (.istore 6) 104 := ⟨by decide +kernel, rfl⟩
theorem eX0_trailer_104 : D1 cX0_trailer 104 (.aload_n 0) 105 := ⟨by decide +kernel, rfl⟩
theorem eX0_trailer_105 : D3 cX0_trailer 105 (.getfield 107) 108 := ⟨by decide +kernel, rfl⟩
theorem eX0_trailer_108 : DC cX0_trailer 108 (1) 109 := Or.inl ⟨1, ⟨by decide +kernel, rfl⟩, by decide⟩
theorem eX0_trailer_109 : D1 cX0_trailer 109 (.isub) 110 := ⟨by decide +kernel, rfl⟩
theorem eX0_trailer_110 : D2 cX0_trailer 110 (.istore 7) 112 := ⟨by decide +kernel, rfl⟩
theorem eX0_trailer_112 : D2 cX0_trailer 112 (.iload 7) 114 := ⟨by decide +kernel, rfl⟩
theorem eX0_trailer_114 : DJ cX0_trailer 114 (.ifCond .lt) 163 117 := ⟨49, by decide +kernel, by decide, rfl⟩
theorem eX0_trailer_117 : D1 cX0_trailer 117 (.iload_n 1) 118 := ⟨by decide +kernel, rfl⟩
theorem eX0_trailer_118 : D2 cX0_trailer 118 (.iload 7) 120 := ⟨by decide +kernel, rfl⟩
theorem eX0_trailer_120 : D1 cX0_trailer 120 (.ishr) 121 := ⟨by decide +kernel, rfl⟩
theorem eX0_trailer_121 : DC cX0_trailer 121 (1) 122 := Or.inl ⟨1, ⟨by decide +kernel, rfl⟩, by decide⟩
theorem eX0_trailer_122 : D1 cX0_trailer 122 (.iand) 123 := ⟨by decide +kernel, rfl⟩
theorem eX0_trailer_123 : DJ cX0_trailer 123 (.ifCond .ne) 129 126 := ⟨6, by decide +kernel, by decide, rfl⟩
theorem eX0_trailer_126 : DJ cX0_trailer 126 .goto 157 129 := ⟨31, by decide +kernel, by decide, rfl⟩
theorem eX0_trailer_129 : D1 cX0_trailer 129 (.aload_n 0) 130 := ⟨by decide +kernel, rfl⟩
theorem eX0_trailer_130 : D3 cX0_trailer 130 (.getfield 97) 133 := ⟨by decide +kernel, rfl⟩
theorem eX0_trailer_133 : D2 cX0_trailer 133 (.iload 6) 135 := ⟨by decide +kernel, rfl⟩
theorem eX0_trailer_135 : DC cX0_trailer 135 (3) 136 := Or.inl ⟨3, ⟨by decide +kernel, rfl⟩, by decide⟩
theorem eX0_trailer_136 : D1 cX0_trailer 136 (.irem) 137 := ⟨by decide +kernel, rfl⟩
theorem eX0_trailer_137 : D1 cX0_trailer 137 (.dup2) 138 := ⟨by decide +kernel, rfl⟩
theorem eX0_trailer_138 : D1 cX0_trailer 138 (.iaload) 139 := ⟨by decide +kernel, rfl⟩
theorem eX0_trailer_139 : D1 cX0_trailer 139 (.aload_n 0) 140 := ⟨by decide +kernel, rfl⟩
theorem eX0_trailer_140 : D3 cX0_trailer 140 (.getfield 19) 143 := ⟨by decide +kernel, rfl⟩
theorem eX0_trailer_143 : D2 cX0_trailer 143 (.iload 7) 145 := ⟨by decide +kernel, rfl⟩
theorem eX0_trailer_145 : D1 cX0_trailer 145 (.aaload) 146 := ⟨by decide +kernel, rfl⟩
theorem eX0_trailer_146 : D3 cX0_trailer 146 (.getfield 417) 149 := ⟨by decide +kernel, rfl⟩
theorem eX0_trailer_149 : D1 cX0_trailer 149 (.iadd) 150 := ⟨by decide +kernel, rfl⟩
theorem eX0_trailer_150 : D1 cX0_trailer 150 (.iastore) 151 := ⟨by decide +kernel, rfl⟩
theorem eX0_trailer_151 : D2 cX0_trailer 151 (.iload 6) 153 := ⟨by decide +kernel, rfl⟩
theorem eX0_trailer_153 : DC cX0_trailer 153 (3) 154 := Or.inl ⟨3, ⟨by decide +kernel, rfl⟩, by decide⟩
theorem eX0_trailer_154 : D1 cX0_trailer 154 (.idiv) 155 := ⟨by decide +kernel, rfl⟩
theorem eX0_trailer_155 : D2 cX0_trailer 155 (.istore 6) 157 := ⟨by decide +kernel, rfl⟩
theorem eX0_trailer_157 : D3 cX0_trailer 157 (.iinc 7 (-1)) 160 := ⟨by decide +kernel, rfl⟩
theorem eX0_trailer_160 : DJ cX0_trailer 160 .goto 112 163 := ⟨-48, by decide +kernel, by decide, rfl⟩
theorem eX0_trailer_163 : D1 cX0_trailer 163 (.aload_n 0) 164 := ⟨by decide +kernel, rfl⟩
theorem eX0_trailer_164 : D3 cX0_trailer 164 (.getfield 97) 167 := ⟨by decide +kernel, rfl⟩
theorem eX0_trailer_167 : DC cX0_trailer 167 (0) 168 := Or.inl ⟨0, ⟨by decide +kernel, rfl⟩, by decide⟩
theorem eX0_trailer_168 : D1 cX0_trailer 168 (.iaload) 169 := ⟨by decide +kernel, rfl⟩
theorem eX0_trailer_169 : D1 cX0_trailer 169 (.aload_n 0) 170 := ⟨by decide +kernel, rfl⟩
theorem eX0_trailer_170 : D3 cX0_trailer 170 (.getfield 97) 173 := ⟨by decide +kernel, rfl⟩
theorem eX0_trailer_173 : DC cX0_trailer 173 (1) 174 := Or.inl ⟨1, ⟨by decide +kernel, rfl⟩, by decide⟩
theorem eX0_trailer_174 : D1 cX0_trailer 174 (.iaload) 175 := ⟨by decide +kernel, rfl⟩
theorem eX0_trailer_175 : D1 cX0_trailer 175 (.aload_n 0) 176 := ⟨by decide +kernel, rfl⟩
theorem eX0_trailer_176 : D3 cX0_trailer 176 (.getfield 97) 179 := ⟨by decide +kernel, rfl⟩
theorem eX0_trailer_179 : DC cX0_trailer 179 (2) 180 := Or.inl ⟨2, ⟨by decide +kernel, rfl⟩, by decide⟩
theorem eX0_trailer_180 : D1 cX0_trailer 180 (.iaload) 181 := ⟨by decide +kernel, rfl⟩
theorem eX0_trailer_181 : D3 cX0_trailer 181 (.invokestatic 419) 184 := ⟨by decide +kernel, rfl⟩
theorem eX0_trailer_184 : D3 cX0_trailer 184 (.invokestatic 419) 187 := ⟨by decide +kernel, rfl⟩
theorem eX0_trailer_187 : D2 cX0_trailer 187 (.istore 7) 189 := ⟨by decide +kernel, rfl⟩
theorem eX0_trailer_189 : D2 cX0_trailer 189 (.iload 7) 191 := ⟨by decide +kernel, rfl⟩
theorem eX0_trailer_191 : D1 cX0_trailer 191 (.iload_n 2) 192 := ⟨by decide +kernel, rfl⟩
theorem eX0_trailer_192 : DJ cX0_trailer 192 (.if_icmp .gt) 218 195 := ⟨26, by decide +kernel, by decide, rfl⟩
theorem eX0_trailer_195 : D1 cX0_trailer 195 (.iload_n 3) 196 := ⟨by decide +kernel, rfl⟩
theorem eX0_trailer_196 : DC cX0_trailer 196 (-1) 197 := Or.inl ⟨-1, ⟨by decide +kernel, rfl⟩, by decide⟩
theorem eX0_trailer_197 : DJ cX0_trailer 197 (.if_icmp .eq) 209 200 := ⟨12, by decide +kernel, by decide, rfl⟩
theorem eX0_trailer_200 : D2 cX0_trailer 200 (.iload 7) 202 := ⟨by decide +kernel, rfl⟩
theorem eX0_trailer_202 : D1 cX0_trailer 202 (.iload_n 3) 203 := ⟨by decide +kernel, rfl⟩
theorem eX0_trailer_203 : DJ cX0_trailer 203 (.if_icmp .lt) 209 206 := ⟨6, by decide +kernel, by decide, rfl⟩
theorem eX0_trailer_206 : DJ cX0_trailer 206 .goto 218 209 := ⟨12, by decide +kernel, by decide, rfl⟩
theorem eX0_trailer_209 : D2 cX0_trailer 209 (.iload 7) 211 := ⟨by decide +kernel, rfl⟩
theorem eX0_trailer_211 : D1 cX0_trailer 211 (.istore_n 3) 212 := ⟨by decide +kernel, rfl⟩
theorem eX0_trailer_212 : D1 cX0_trailer 212 (.aload_n 0) 213 := ⟨by decide +kernel, rfl⟩
theorem eX0_trailer_213 : D2 cX0_trailer 213 (.iload 5) 215 := ⟨by decide +kernel, rfl⟩
theorem eX0_trailer_215 : D3 cX0_trailer 215 (.putfield 422) 218 := ⟨by decide +kernel, rfl⟩
theorem eX0_trailer_218 : D3 cX0_trailer 218 (.iinc 5 1) 221 := ⟨by decide +kernel, rfl⟩
theorem eX0_trailer_221 : DJ cX0_trailer 221 .goto 70 224 := ⟨-151, by decide +kernel, by decide, rfl⟩
theorem eX0_trailer_224 : D1 cX0_trailer 224 (.iload_n 3) 225 := ⟨by decide +kernel, rfl⟩
theorem eX0_trailer_225 : DC cX0_trailer 225 (-1) 226 := Or.inl ⟨-1, ⟨by decide +kernel, rfl⟩, by decide⟩
theorem eX0_trailer_226 : DJ cX0_trailer 226 (.if_icmp .ne) 232 229 := ⟨6, by decide +kernel, by decide, rfl⟩
theorem eX0_trailer_229 : DC cX0_trailer 229 (-3) 231 := Or.inr (Or.inl ⟨-3, ⟨by decide +kernel, rfl⟩, by decide⟩)
theorem eX0_trailer_231 : D1 cX0_trailer 231 (.ireturn) 232 := ⟨by decide +kernel, rfl⟩
theorem eX0_trailer_232 : D1 cX0_trailer 232 (.aload_n 0) 233 := ⟨by decide +kernel, rfl⟩
theorem eX0_trailer_233 : D1 cX0_trailer 233 (.iload_n 1) 234 := ⟨by decide +kernel, rfl⟩
theorem eX0_trailer_234 : D3 cX0_trailer 234 (.putfield 425) 237 := ⟨by decide +kernel, rfl⟩
theorem eX0_trailer_237 : D1 cX0_trailer 237 (.iload_n 3) 238 := ⟨by decide +kernel, rfl⟩
theorem eX0_trailer_238 : D1 cX0_trailer 238 (.ireturn) 239 := ⟨by decide +kernel, rfl⟩
theorem eX0_rack_0 : D1 cX0_rack 0 (.aload_n 0) 1 := ⟨by decide +kernel, rfl⟩
theorem eX0_rack_1 : D1 cX0_rack 1 (.iload_n 1) 2 := ⟨by decide +kernel, rfl⟩
theorem eX0_rack_2 : D3 cX0_rack 2 (.invokevirtual 110) 5 := ⟨by decide +kernel, rfl⟩
theorem eX0_rack_5 : DJ cX0_rack 5 (.ifCond .eq) 19 8 := ⟨14, by decide +kernel, by decide, rfl⟩
theorem eX0_rack_8 : D1 cX0_rack 8 (.aload_n 0) 9 := ⟨by decide +kernel, rfl⟩
theorem eX0_rack_9 : D3 cX0_rack 9 (.getfield 425) 12 := ⟨by decide +kernel, rfl⟩
theorem eX0_rack_12 : D1 cX0_rack 12 (.iload_n 1) 13 := ⟨by decide +kernel, rfl⟩
theorem eX0_rack_13 : D1 cX0_rack 13 (.ishr) 14 := ⟨by decide +kernel, rfl⟩
theorem eX0_rack_14 : DC cX0_rack 14 (1) 15 := Or.inl ⟨1, ⟨by decide +kernel, rfl⟩, by decide⟩
theorem eX0_rack_15 : D1 cX0_rack 15 (.iand) 16 := ⟨by decide +kernel, rfl⟩
theorem eX0_rack_16 : DJ cX0_rack 16 (.ifCond .ne) 21 19 := ⟨5, by decide +kernel, by decide, rfl⟩
theorem eX0_rack_19 : DC cX0_rack 19 (-1) 20 := Or.inl ⟨-1, ⟨by decide +kernel, rfl⟩, by decide⟩
theorem eX0_rack_20 : D1 cX0_rack 20 (.ireturn) 21 := ⟨by decide +kernel, rfl⟩
theorem eX0_rack_21 : D1 cX0_rack 21 (.aload_n 0) 22 := ⟨by decide +kernel, rfl⟩
theorem eX0_rack_22 : D3 cX0_rack 22 (.getfield 422) 25 := ⟨by decide +kernel, rfl⟩
theorem eX0_rack_25 : D1 cX0_rack 25 (.istore_n 2) 26 := ⟨by decide +kernel, rfl⟩
theorem eX0_rack_26 : DC cX0_rack 26 (7) 28 := Or.inr (Or.inl ⟨7, ⟨by decide +kernel, rfl⟩, by decide⟩)
theorem eX0_rack_28 : D1 cX0_rack 28 (.istore_n 3) 29 := ⟨by decide +kernel, rfl⟩
theorem eX0_rack_29 : D1 cX0_rack 29 (.iload_n 3) 30 := ⟨by decide +kernel, rfl⟩
theorem eX0_rack_30 : D1 cX0_rack 30 (.iload_n 1) 31 := ⟨by decide +kernel, rfl⟩
theorem eX0_rack_31 : DJ cX0_rack 31 (.if_icmp .le) 56 34 := ⟨25, by decide +kernel, by decide, rfl⟩
theorem eX0_rack_34 : D1 cX0_rack 34 (.aload_n 0) 35 := ⟨by decide +kernel, rfl⟩
theorem eX0_rack_35 : D3 cX0_rack 35 (.getfield 425) 38 := ⟨by decide +kernel, rfl⟩
theorem eX0_rack_38 : D1 cX0_rack 38 (.iload_n 3) 39 := ⟨by decide +kernel, rfl⟩
theorem eX0_rack_39 : D1 cX0_rack 39 (.ishr) 40 := ⟨by decide +kernel, rfl⟩
theorem eX0_rack_40 : DC cX0_rack 40 (1) 41 := Or.inl ⟨1, ⟨by decide +kernel, rfl⟩, by decide⟩
theorem eX0_rack_41 : D1 cX0_rack 41 (.iand) 42 := ⟨by decide +kernel, rfl⟩
theorem eX0_rack_42 : DC cX0_rack 42 (1) 43 := Or.inl ⟨1, ⟨by decide +kernel, rfl⟩, by decide⟩
theorem eX0_rack_43 : DJ cX0_rack 43 (.if_icmp .ne) 50 46 := ⟨7, by decide +kernel, by decide, rfl⟩
theorem eX0_rack_46 : D1 cX0_rack 46 (.iload_n 2) 47 := ⟨by decide +kernel, rfl⟩
theorem eX0_rack_47 : DC cX0_rack 47 (3) 48 := Or.inl ⟨3, ⟨by decide +kernel, rfl⟩, by decide⟩
theorem eX0_rack_48 : D1 cX0_rack 48 (.idiv) 49 := ⟨by decide +kernel, rfl⟩
theorem eX0_rack_49 : D1 cX0_rack 49 (.istore_n 2) 50 := ⟨by decide +kernel, rfl⟩
theorem eX0_rack_50 : D3 cX0_rack 50 (.iinc 3 (-1)) 53 := ⟨by decide +kernel, rfl⟩
theorem eX0_rack_53 : DJ cX0_rack 53 .goto 29 56 := ⟨-24, by decide +kernel, by decide, rfl⟩
theorem eX0_rack_56 : D1 cX0_rack 56 (.iload_n 2) 57 := ⟨by decide +kernel, rfl⟩
theorem eX0_rack_57 : DC cX0_rack 57 (3) 58 := Or.inl ⟨3, ⟨by decide +kernel, rfl⟩, by decide⟩
theorem eX0_rack_58 : D1 cX0_rack 58 (.irem) 59 := ⟨by decide +kernel, rfl⟩
theorem eX0_rack_59 : D1 cX0_rack 59 (.ireturn) 60 := ⟨by decide +kernel, rfl⟩
theorem eX0_count_0 : D1 cX0_count 0 (.iload_n 1) 1 := ⟨by decide +kernel, rfl⟩
theorem eX0_count_1 : decode cX0_count 1 = .ok (.tableswitch 96 0 8 #[51, 56, 61, 66, 71, 76, 81, 86, 91], 51) := by decide +kernel
theorem eX0_count_52 : D1 cX0_count 52 (.aload_n 0) 53 := ⟨by decide +kernel, rfl⟩
theorem eX0_count_53 : D3 cX0_count 53 (.getfield 100) 56 := ⟨by decide +kernel, rfl⟩
theorem eX0_count_56 : D1 cX0_count 56 (.ireturn) 57 := ⟨by decide +kernel, rfl⟩
theorem eX0_count_57 : D1 cX0_count 57 (.aload_n 0) 58 := ⟨by decide +kernel, rfl⟩
theorem eX0_count_58 : D3 cX0_count 58 (.getfield 107) 61 := ⟨by decide +kernel, rfl⟩
theorem eX0_count_61 : D1 cX0_count 61 (.ireturn) 62 := ⟨by decide +kernel, rfl⟩
theorem eX0_count_62 : D1 cX0_count 62 (.aload_n 0) 63 := ⟨by decide +kernel, rfl⟩
theorem eX0_count_63 : D3 cX0_count 63 (.getfield 207) 66 := ⟨by decide +kernel, rfl⟩
theorem eX0_count_66 : D1 cX0_count 66 (.ireturn) 67 := ⟨by decide +kernel, rfl⟩
theorem eX0_count_67 : D1 cX0_count 67 (.aload_n 0) 68 := ⟨by decide +kernel, rfl⟩
theorem eX0_count_68 : D3 cX0_count 68 (.getfield 363) 71 := ⟨by decide +kernel, rfl⟩
theorem eX0_count_71 : D1 cX0_count 71 (.ireturn) 72 := ⟨by decide +kernel, rfl⟩
theorem eX0_count_72 : D1 cX0_count 72 (.aload_n 0) 73 := ⟨by decide +kernel, rfl⟩
theorem eX0_count_73 : D3 cX0_count 73 (.getfield 388) 76 := ⟨by decide +kernel, rfl⟩
theorem eX0_count_76 : D1 cX0_count 76 (.ireturn) 77 := ⟨by decide +kernel, rfl⟩
theorem eX0_count_77 : D1 cX0_count 77 (.aload_n 0) 78 := ⟨by decide +kernel, rfl⟩
theorem eX0_count_78 : D3 cX0_count 78 (.getfield 391) 81 := ⟨by decide +kernel, rfl⟩
theorem eX0_count_81 : D1 cX0_count 81 (.ireturn) 82 := ⟨by decide +kernel, rfl⟩
theorem eX0_count_82 : D1 cX0_count 82 (.aload_n 0) 83 := ⟨by decide +kernel, rfl⟩
theorem eX0_count_83 : D3 cX0_count 83 (.getfield 405) 86 := ⟨by decide +kernel, rfl⟩
theorem eX0_count_86 : D1 cX0_count 86 (.ireturn) 87 := ⟨by decide +kernel, rfl⟩
theorem eX0_count_87 : D1 cX0_count 87 (.aload_n 0) 88 := ⟨by decide +kernel, rfl⟩
theorem eX0_count_88 : D3 cX0_count 88 (.getfield 385) 91 := ⟨by decide +kernel, rfl⟩
theorem eX0_count_91 : D1 cX0_count 91 (.ireturn) 92 := ⟨by decide +kernel, rfl⟩
theorem eX0_count_92 : D1 cX0_count 92 (.aload_n 0) 93 := ⟨by decide +kernel, rfl⟩
theorem eX0_count_93 : D3 cX0_count 93 (.getfield 291) 96 := ⟨by decide +kernel, rfl⟩
theorem eX0_count_96 : D1 cX0_count 96 (.ireturn) 97 := ⟨by decide +kernel, rfl⟩
theorem eX0_count_97 : DC cX0_count 97 (-1) 98 := Or.inl ⟨-1, ⟨by decide +kernel, rfl⟩, by decide⟩
theorem eX0_count_98 : D1 cX0_count 98 (.ireturn) 99 := ⟨by decide +kernel, rfl⟩
def sX_outsBetween_L13 (a1 : Int32) (a2 : Int32) : Int32 → Int32 → Wd → Option (Int32 × Wd) :=
  fx (fun _ _ _ => none) (fun self7 x4 x5 w6 =>
    if x5 < a2 then (some (x4, w6)) else (rd (inb x5 30) (w6.2.1 25 (Int32.toNatClampNeg x5)) fun v8 => if v8 = a1 then (nm (x4 + (1 : Int32)) fun x9 => nm (stG w6 90 34 x5) fun w10 => nm (x5 + (-1 : Int32)) fun x11 => self7 x9 x11 w10) else (nm (x5 + (-1 : Int32)) fun x12 => self7 x4 x12 w6))) FU
def sX_outsBetween (w : Wd) (a1 : Int32) (a2 : Int32) (a3 : Int32) : Option (Int32 × Wd) :=
  nm (0 : Int32) fun x1 => nm (stG w 90 34 (-1 : Int32)) fun w2 => nm (a3 - (1 : Int32)) fun x3 => sX_outsBetween_L13 a1 a2 x1 x3 w2
abbrev rmX0_outsBetween : Room := { frames := 0, cells := 0, slots := 0, locals := 0 }
theorem pkX0_outsBetween : PkV yX0_outsBetween RX0 cX0_outsBetween 6 (some .int) 3 := ⟨q705, qs25, q57, q706, by decide +kernel⟩
set_option maxHeartbeats 4000000 in
theorem met_X0_outsBetween (l : Launch) (D : va_G) (g : Nat → ClassId) (ad sd : Nat → Nat) (w : Wd) (a1 : Int32) (a2 : Int32) (a3 : Int32) (sz : Nat) (r : Int32) (w' : Wd) (ho : sX_outsBetween w a1 a2 a3 = some (r, w')) : Met l yX0_outsBetween (ws_ yX0_outsBetween cX0_outsBetween 6 (some .int)) rmX0_outsBetween (va_Pc [.ref (ad 99), .int a1, .int a2, .int a3] (MPre D vwCl (tysG g) (cellsX g ad w) (NXX sd (cellsX g ad w)) sz)) (QcI D vwCl (tysG g) (cellsX g ad w') r (va_A (cellsX g ad w) sz)) 0 0 (va_A (cellsX g ad w) sz) := by
  refine met_XJ (cw := cellsX g ad) (w := w) (cc := cX0_outsBetween) (lv := [(0, .ref (ad 99)), (1, .int a1), (2, .int a2), (3, .int a3)]) pnX0 _ (Nat.le_of_ble_eq_true rfl) rfl ?_
  intro p e s m args below meth c R Q A B hN hr hsz hA hmm hRm hQ hAe
  have hX : NXA sd A s := by rw [hAe, ← hsz]; exact hN
  unfold sX_outsBetween at ho
  refine j_const B eX0_outsBetween_0 ?_
  refine j_istore (lv' := fun x1 => [(0, .ref (ad 99)), (1, .int a1), (2, .int a2), (3, .int a3), (4, .int x1)]) B eX0_outsBetween_1 [1, 2, 3, 4, 0] (by decide) (fun _ => rfl) ho (fun x1 ho => ?_)
  refine j_aload_n B eX0_outsBetween_3 0 rfl ?_
  refine j_const B eX0_outsBetween_4 ?_
  refine pfX_34 B eX0_outsBetween_5 ho (fun w2 ho => ?_)
  refine j_iload_n B eX0_outsBetween_8 3 rfl ?_
  refine j_const B eX0_outsBetween_9 ?_
  refine j_isub B eX0_outsBetween_10 ?_
  refine j_istore (lv' := fun x3 => [(0, .ref (ad 99)), (1, .int a1), (2, .int a2), (4, .int x1), (5, .int x3)]) B eX0_outsBetween_11 [1, 2, 3, 5, 0] (by decide) (fun _ => rfl) ho (fun x3 ho => ?_)
  unfold sX_outsBetween_L13 at ho
  refine fx3 (C := fun x4 x5 w6 => XJ p l e R s m args below meth c 0 0 Q A D vwCl (cellsX g ad) 6 w6 13 [(0, .ref (ad 99)), (1, .int a1), (2, .int a2), (4, .int x4), (5, .int x5)] []) (fun self7 hself7 x4 x5 w6 ho => ?_) FU _ _ _ ho
  refine j_iload B eX0_outsBetween_13 4 rfl ?_
  refine j_iload_n B eX0_outsBetween_15 2 rfl ?_
  refine j_icmp_lt B eX0_outsBetween_16 ho (fun _ ho => ?_) (fun _ ho => ?_)
  · refine j_iload B eX0_outsBetween_48 3 rfl ?_
    exact j_iretw B hr hQ eX0_outsBetween_50 ho
  · refine j_aload_n B eX0_outsBetween_19 0 rfl ?_
    refine gfX_25 B eX0_outsBetween_20 ?_
    refine j_iload B eX0_outsBetween_23 4 rfl ?_
    refine ldX_25 B eX0_outsBetween_25 ho (fun v8 ho => ?_)
    refine j_iload_n B eX0_outsBetween_26 1 rfl ?_
    refine j_icmp_eq B eX0_outsBetween_27 ho (fun _ ho => ?_) (fun _ ho => ?_)
    · refine j_iinc (d := 1) (lv' := fun x9 => [(0, .ref (ad 99)), (1, .int a1), (2, .int a2), (4, .int x9), (5, .int x5)]) B eX0_outsBetween_33 3 rfl (by decide) [1, 2, 3, 0, 4] (by decide) (fun _ => rfl) ho (fun x9 ho => ?_)
      refine j_aload_n B eX0_outsBetween_36 0 rfl ?_
      refine j_iload B eX0_outsBetween_37 4 rfl ?_
      refine pfX_34 B eX0_outsBetween_39 ho (fun w10 ho => ?_)
      refine j_iinc (d := -1) (lv' := fun x11 => [(0, .ref (ad 99)), (1, .int a1), (2, .int a2), (4, .int x9), (5, .int x11)]) B eX0_outsBetween_42 4 rfl (by decide) [1, 2, 3, 4, 0] (by decide) (fun _ => rfl) ho (fun x11 ho => ?_)
      refine j_goto B eX0_outsBetween_45 ?_
      exact hself7 _ _ _ ho
    · refine j_goto B eX0_outsBetween_30 ?_
      refine j_iinc (d := -1) (lv' := fun x12 => [(0, .ref (ad 99)), (1, .int a1), (2, .int a2), (4, .int x4), (5, .int x12)]) B eX0_outsBetween_42 4 rfl (by decide) [1, 2, 3, 4, 0] (by decide) (fun _ => rfl) ho (fun x12 ho => ?_)
      refine j_goto B eX0_outsBetween_45 ?_
      exact hself7 _ _ _ ho
def sX_broke_L35 (w : Wd) (a1 : Int32) (J6 : Int32 → Option (Int32 × Wd)) : Int32 → Int32 → Option (Int32 × Wd) :=
  fx (fun _ _ => none) (fun self21 x19 x20 =>
    if a1 ≤ x20 then (J6 x19) else (rd (inb x20 60) (w.2.1 29 (Int32.toNatClampNeg x20)) fun v22 => rd (inb a1 60) (w.2.1 29 (Int32.toNatClampNeg a1)) fun v23 => if v22 = v23 then (nm x20 fun x25 => nm (x20 + (1 : Int32)) fun x26 => self21 x25 x26) else (nm (x20 + (1 : Int32)) fun x24 => self21 x19 x24))) FU
def sX_broke (w : Wd) (a1 : Int32) (a2 : Int32) : Option (Int32 × Wd) :=
  bd (sX_in (Int32.toInt64 a1) (0 : Int64) (Int32.toInt64 ((w.2.1 90 33) - (1 : Int32)))) fun v1 => if v1 = 0 then (some ((-1 : Int32), w)) else (bd (sX_in (Int32.toInt64 a2) (0 : Int64) (2 : Int64)) fun v2 => if v2 = 0 then (some ((-1 : Int32), w)) else (nm (-1 : Int32) fun x3 => nm (0 : Int32) fun x4 => jn (fun x5 => rd (inb a1 60) (w.2.1 31 (Int32.toNatClampNeg a1)) fun v7 => if v7 = 0 then (jn (rd (inb a1 60) (w.2.1 29 (Int32.toNatClampNeg a1)) fun v9 => jn (fun z10 => rd (inb a1 60) (w.2.1 30 (Int32.toNatClampNeg a1)) fun v12 => bd2 (sX_outsBetween w v9 z10 v12) fun v13 w14 => nm v13 fun x15 => if a2 = 0 then (some (x15, w14)) else (if x15 = 0 then (some ((-1 : Int32), w14)) else (if a2 = (1 : Int32) then (some ((w14.2.1 90 34), w14)) else (rd (inb (w14.2.1 90 34) 30) (w14.2.1 28 (Int32.toNatClampNeg (w14.2.1 90 34))) fun v16 => some (v16, w14))))) fun J11 => if x5 = (-1 : Int32) then (J11 (0 : Int32)) else (rd (inb x5 60) (w.2.1 30 (Int32.toNatClampNeg x5)) fun v17 => J11 v17)) fun J8 => if x5 = (-1 : Int32) then (J8) else (rd (inb x5 60) (w.2.1 31 (Int32.toNatClampNeg x5)) fun v18 => if v18 = 0 then (some ((-3 : Int32), w)) else (J8))) else (some ((-3 : Int32), w))) fun J6 => sX_broke_L35 w a1 J6 x3 x4))
abbrev rmX0_broke : Room := { frames := 1, cells := 0, slots := 0, locals := 25 }
theorem pkX0_broke : PkV yX0_broke RX0 cX0_broke 5 (some .int) 2 := ⟨q699, q700, q57, q701, by decide +kernel⟩
set_option maxHeartbeats 4000000 in
theorem met_X0_broke (l : Launch) (D : va_G) (g : Nat → ClassId) (ad sd : Nat → Nat) (w : Wd) (a1 : Int32) (a2 : Int32) (sz : Nat) (r : Int32) (w' : Wd) (ho : sX_broke w a1 a2 = some (r, w')) : Met l yX0_broke (ws_ yX0_broke cX0_broke 5 (some .int)) rmX0_broke (va_Pc [.ref (ad 99), .int a1, .int a2] (MPre D vwCl (tysG g) (cellsX g ad w) (NXX sd (cellsX g ad w)) sz)) (QcI D vwCl (tysG g) (cellsX g ad w') r (va_A (cellsX g ad w) sz)) 0 0 (va_A (cellsX g ad w) sz) := by
  refine met_XJ (cw := cellsX g ad) (w := w) (cc := cX0_broke) (lv := [(0, .ref (ad 99)), (1, .int a1), (2, .int a2)]) pnX0 _ (Nat.le_of_ble_eq_true rfl) rfl ?_
  intro p e s m args below meth c R Q A B hN hr hsz hA hmm hRm hQ hAe
  have hX : NXA sd A s := by rw [hAe, ← hsz]; exact hN
  unfold sX_broke at ho
  refine j_iload_n B eX0_broke_0 1 rfl ?_
  refine j_i2l B eX0_broke_1 ?_
  refine j_lconst (v := 0) B eX0_broke_2 rfl ?_
  refine j_aload_n B eX0_broke_3 0 rfl ?_
  refine gfX_33 B eX0_broke_4 ?_
  refine j_const B eX0_broke_7 ?_
  refine j_isub B eX0_broke_8 ?_
  refine j_i2l B eX0_broke_9 ?_
  refine j_callSi (As := [.long (Int32.toInt64 a1), .long (0 : Int64), .long (Int32.toInt64 ((w.2.1 90 33) - (1 : Int32)))]) B hA (met_X0_in l D _ _ _ (Int32.toInt64 a1) (0 : Int64) (Int32.toInt64 ((w.2.1 90 33) - (1 : Int32)))) NT_ok pkX0_in q224 rfl rfl hRm ⟨Nat.le_of_ble_eq_true rfl, Nat.le_of_ble_eq_true rfl⟩ rfl rfl (Nat.le_of_ble_eq_true rfl) ⟨Nat.zero_le _, Nat.zero_le _⟩ eX0_broke_10 ho (fun v1 ho => ?_)
  refine j_if_eq B eX0_broke_13 ho (fun _ ho => ?_) (fun _ ho => ?_)
  · refine j_const B eX0_broke_28 ?_
    exact j_iretw B hr hQ eX0_broke_29 ho
  · refine j_iload_n B eX0_broke_16 2 rfl ?_
    refine j_i2l B eX0_broke_17 ?_
    refine j_lconst (v := 0) B eX0_broke_18 rfl ?_
    refine j_ldc2 B eX0_broke_19 q702 ?_
    refine j_callSi (As := [.long (Int32.toInt64 a2), .long (0 : Int64), .long (2 : Int64)]) B hA (met_X0_in l D _ _ _ (Int32.toInt64 a2) (0 : Int64) (2 : Int64)) NT_ok pkX0_in q224 rfl rfl hRm ⟨Nat.le_of_ble_eq_true rfl, Nat.le_of_ble_eq_true rfl⟩ rfl rfl (Nat.le_of_ble_eq_true rfl) ⟨Nat.zero_le _, Nat.zero_le _⟩ eX0_broke_22 ho (fun v2 ho => ?_)
    refine j_if_ne B eX0_broke_25 ho (fun _ ho => ?_) (fun _ ho => ?_)
    · refine j_const B eX0_broke_30 ?_
      refine j_istore_n (lv' := fun x3 => [(0, .ref (ad 99)), (1, .int a1), (2, .int a2), (3, .int x3)]) B eX0_broke_31 [1, 2, 3, 0] (by decide) (fun _ => rfl) ho (fun x3 ho => ?_)
      refine j_const B eX0_broke_32 ?_
      refine j_istore (lv' := fun x4 => [(0, .ref (ad 99)), (1, .int a1), (2, .int a2), (3, .int x3), (4, .int x4)]) B eX0_broke_33 [1, 2, 3, 4, 0] (by decide) (fun _ => rfl) ho (fun x4 ho => ?_)
      refine jn1 (C := fun x5 => XJ p l e R s m args below meth c 0 0 Q A D vwCl (cellsX g ad) 5 w 66 [(0, .ref (ad 99)), (1, .int a1), (2, .int a2), (3, .int x5)] []) ho (fun x5 ho => ?_) (fun J6 hJ6 ho => ?_)
      · refine j_aload_n B eX0_broke_66 0 rfl ?_
        refine gfX_31 B eX0_broke_67 ?_
        refine j_iload_n B eX0_broke_70 1 rfl ?_
        refine ldX_31 B eX0_broke_71 ho (fun v7 ho => ?_)
        refine j_if_ne B eX0_broke_72 ho (fun _ ho => ?_) (fun _ ho => ?_)
        · refine j_const B eX0_broke_89 ?_
          exact j_iretw B hr hQ eX0_broke_91 ho
        · refine j_iload_n B eX0_broke_75 3 rfl ?_
          refine j_const B eX0_broke_76 ?_
          refine jn0 (C := XJ p l e R s m args below meth c 0 0 Q A D vwCl (cellsX g ad) 5 w 92 [(0, .ref (ad 99)), (1, .int a1), (2, .int a2), (3, .int x5)] []) ho (fun ho => ?_) (fun J8 hJ8 ho => ?_)
          · refine j_aload_n B eX0_broke_92 0 rfl ?_
            refine j_aload_n B eX0_broke_93 0 rfl ?_
            refine gfX_29 B eX0_broke_94 ?_
            refine j_iload_n B eX0_broke_97 1 rfl ?_
            refine ldX_29 B eX0_broke_98 ho (fun v9 ho => ?_)
            refine j_iload_n B eX0_broke_99 3 rfl ?_
            refine j_const B eX0_broke_100 ?_
            refine jn1 (C := fun z10 => XJ p l e R s m args below meth c 0 0 Q A D vwCl (cellsX g ad) 5 w 114 [(0, .ref (ad 99)), (1, .int a1), (2, .int a2)] [.int z10, .int v9, .ref (ad 99)]) ho (fun z10 ho => ?_) (fun J11 hJ11 ho => ?_)
            · refine j_aload_n B eX0_broke_114 0 rfl ?_
              refine gfX_30 B eX0_broke_115 ?_
              refine j_iload_n B eX0_broke_118 1 rfl ?_
              refine ldX_30 B eX0_broke_119 ho (fun v12 ho => ?_)
              refine j_callViw (As := [.int v9, .int z10, .int v12]) B hA (met_X0_outsBetween l D g ad sd w v9 z10 v12) (NXX_ok hX) pkX0_outsBetween q703 0 rfl rfl rfl rfl hRm ⟨Nat.le_of_ble_eq_true rfl, Nat.le_of_ble_eq_true rfl⟩ rfl rfl (Nat.le_of_ble_eq_true rfl) ⟨Nat.zero_le _, Nat.zero_le _⟩ eX0_broke_120 ho (fun v13 w14 ho => ?_)
              refine j_istore (lv' := fun x15 => [(0, .ref (ad 99)), (2, .int a2), (4, .int x15)]) B eX0_broke_123 [1, 3, 0] (by decide) (fun _ => rfl) ho (fun x15 ho => ?_)
              refine j_iload_n B eX0_broke_125 1 rfl ?_
              refine j_if_ne B eX0_broke_126 ho (fun _ ho => ?_) (fun _ ho => ?_)
              · refine j_iload B eX0_broke_132 2 rfl ?_
                refine j_if_ne B eX0_broke_134 ho (fun _ ho => ?_) (fun _ ho => ?_)
                · refine j_iload_n B eX0_broke_141 1 rfl ?_
                  refine j_const B eX0_broke_142 ?_
                  refine j_icmp_ne B eX0_broke_143 ho (fun _ ho => ?_) (fun _ ho => ?_)
                  · refine j_aload_n B eX0_broke_153 0 rfl ?_
                    refine gfX_28 B eX0_broke_154 ?_
                    refine j_aload_n B eX0_broke_157 0 rfl ?_
                    refine gfX_34 B eX0_broke_158 ?_
                    refine ldX_28 B eX0_broke_161 ho (fun v16 ho => ?_)
                    exact j_iretw B hr hQ eX0_broke_162 ho
                  · refine j_aload_n B eX0_broke_146 0 rfl ?_
                    refine gfX_34 B eX0_broke_147 ?_
                    refine j_goto B eX0_broke_150 ?_
                    exact j_iretw B hr hQ eX0_broke_162 ho
                · refine j_const B eX0_broke_137 ?_
                  refine j_goto B eX0_broke_138 ?_
                  exact j_iretw B hr hQ eX0_broke_162 ho
              · refine j_iload B eX0_broke_129 2 rfl ?_
                exact j_iretw B hr hQ eX0_broke_131 ho
            · refine j_icmp_ne B eX0_broke_101 ho (fun _ ho => ?_) (fun _ ho => ?_)
              · refine j_aload_n B eX0_broke_108 0 rfl ?_
                refine gfX_30 B eX0_broke_109 ?_
                refine j_iload_n B eX0_broke_112 3 rfl ?_
                refine ldX_30 B eX0_broke_113 ho (fun v17 ho => ?_)
                refine j_lsub (lv' := [(0, .ref (ad 99)), (1, .int a1), (2, .int a2)]) [0, 1, 2] rfl ?_
                exact hJ11 _ ho
              · refine j_const B eX0_broke_104 ?_
                refine j_goto B eX0_broke_105 ?_
                refine j_lsub (lv' := [(0, .ref (ad 99)), (1, .int a1), (2, .int a2)]) [0, 1, 2] rfl ?_
                exact hJ11 _ ho
          · refine j_icmp_eq B eX0_broke_77 ho (fun _ ho => ?_) (fun _ ho => ?_)
            · exact hJ8 ho
            · refine j_aload_n B eX0_broke_80 0 rfl ?_
              refine gfX_31 B eX0_broke_81 ?_
              refine j_iload_n B eX0_broke_84 3 rfl ?_
              refine ldX_31 B eX0_broke_85 ho (fun v18 ho => ?_)
              refine j_if_ne B eX0_broke_86 ho (fun _ ho => ?_) (fun _ ho => ?_)
              · exact hJ8 ho
              · refine j_const B eX0_broke_89 ?_
                exact j_iretw B hr hQ eX0_broke_91 ho
      · unfold sX_broke_L35 at ho
        refine fx2 (C := fun x19 x20 => XJ p l e R s m args below meth c 0 0 Q A D vwCl (cellsX g ad) 5 w 35 [(0, .ref (ad 99)), (1, .int a1), (2, .int a2), (3, .int x19), (4, .int x20)] []) (fun self21 hself21 x19 x20 ho => ?_) FU _ _ ho
        refine j_iload B eX0_broke_35 4 rfl ?_
        refine j_iload_n B eX0_broke_37 1 rfl ?_
        refine j_icmp_ge B eX0_broke_38 ho (fun _ ho => ?_) (fun _ ho => ?_)
        · refine j_lsub (lv' := [(0, .ref (ad 99)), (1, .int a1), (2, .int a2), (3, .int x19)]) [0, 1, 2, 3] rfl ?_
          exact hJ6 _ ho
        · refine j_aload_n B eX0_broke_41 0 rfl ?_
          refine gfX_29 B eX0_broke_42 ?_
          refine j_iload B eX0_broke_45 4 rfl ?_
          refine ldX_29 B eX0_broke_47 ho (fun v22 ho => ?_)
          refine j_aload_n B eX0_broke_48 0 rfl ?_
          refine gfX_29 B eX0_broke_49 ?_
          refine j_iload_n B eX0_broke_52 1 rfl ?_
          refine ldX_29 B eX0_broke_53 ho (fun v23 ho => ?_)
          refine j_icmp_ne B eX0_broke_54 ho (fun _ ho => ?_) (fun _ ho => ?_)
          · refine j_iinc (d := 1) (lv' := fun x24 => [(0, .ref (ad 99)), (1, .int a1), (2, .int a2), (3, .int x19), (4, .int x24)]) B eX0_broke_60 4 rfl (by decide) [1, 2, 3, 4, 0] (by decide) (fun _ => rfl) ho (fun x24 ho => ?_)
            refine j_goto B eX0_broke_63 ?_
            exact hself21 _ _ ho
          · refine j_iload B eX0_broke_57 4 rfl ?_
            refine j_istore_n (lv' := fun x25 => [(0, .ref (ad 99)), (1, .int a1), (2, .int a2), (3, .int x25), (4, .int x20)]) B eX0_broke_59 [1, 2, 3, 0, 4] (by decide) (fun _ => rfl) ho (fun x25 ho => ?_)
            refine j_iinc (d := 1) (lv' := fun x26 => [(0, .ref (ad 99)), (1, .int a1), (2, .int a2), (3, .int x25), (4, .int x26)]) B eX0_broke_60 4 rfl (by decide) [1, 2, 3, 4, 0] (by decide) (fun _ => rfl) ho (fun x26 ho => ?_)
            refine j_goto B eX0_broke_63 ?_
            exact hself21 _ _ ho
    · refine j_const B eX0_broke_28 ?_
      exact j_iretw B hr hQ eX0_broke_29 ho
def sX_outing (w : Wd) (a1 : Int32) (a2 : Int32) : Option (Int32) :=
  bd (sX_in (Int32.toInt64 a1) (0 : Int64) (Int32.toInt64 ((w.2.1 90 32) - (1 : Int32)))) fun v1 => if v1 = 0 then (some (-1 : Int32)) else (if a2 = 0 then (rd (inb a1 30) (w.2.1 25 (Int32.toNatClampNeg a1)) fun v5 => some v5) else (if a2 = (1 : Int32) then (rd (inb a1 30) (w.2.1 26 (Int32.toNatClampNeg a1)) fun v4 => some v4) else (if a2 = (2 : Int32) then (rd (inb a1 30) (w.2.1 27 (Int32.toNatClampNeg a1)) fun v3 => some v3) else (if a2 = (3 : Int32) then (rd (inb a1 30) (w.2.1 28 (Int32.toNatClampNeg a1)) fun v2 => some v2) else (some (-1 : Int32))))))
abbrev rmX0_outing : Room := { frames := 1, cells := 0, slots := 0, locals := 25 }
theorem pkX0_outing : PkV yX0_outing RX0 cX0_outing 3 (some .int) 2 := ⟨q708, q709, q57, q710, by decide +kernel⟩
set_option maxHeartbeats 4000000 in
theorem met_X0_outing (l : Launch) (D : va_G) (g : Nat → ClassId) (ad sd : Nat → Nat) (w : Wd) (a1 : Int32) (a2 : Int32) (sz : Nat) (r : Int32) (ho : sX_outing w a1 a2 = some r) : Met l yX0_outing (ws_ yX0_outing cX0_outing 3 (some .int)) rmX0_outing (va_Pc [.ref (ad 99), .int a1, .int a2] (MPre D vwCl (tysG g) (cellsX g ad w) (NXX sd (cellsX g ad w)) sz)) (QcI D vwCl (tysG g) (cellsX g ad w) r (va_A (cellsX g ad w) sz)) 0 0 (va_A (cellsX g ad w) sz) := by
  refine met_XJ (cw := cellsX g ad) (w := w) (cc := cX0_outing) (lv := [(0, .ref (ad 99)), (1, .int a1), (2, .int a2)]) pnX0 _ (Nat.le_of_ble_eq_true rfl) rfl ?_
  intro p e s m args below meth c R Q A B hN hr hsz hA hmm hRm hQ hAe
  have hX : NXA sd A s := by rw [hAe, ← hsz]; exact hN
  unfold sX_outing at ho
  refine j_iload_n B eX0_outing_0 1 rfl ?_
  refine j_i2l B eX0_outing_1 ?_
  refine j_lconst (v := 0) B eX0_outing_2 rfl ?_
  refine j_aload_n B eX0_outing_3 0 rfl ?_
  refine gfX_32 B eX0_outing_4 ?_
  refine j_const B eX0_outing_7 ?_
  refine j_isub B eX0_outing_8 ?_
  refine j_i2l B eX0_outing_9 ?_
  refine j_callSi (As := [.long (Int32.toInt64 a1), .long (0 : Int64), .long (Int32.toInt64 ((w.2.1 90 32) - (1 : Int32)))]) B hA (met_X0_in l D _ _ _ (Int32.toInt64 a1) (0 : Int64) (Int32.toInt64 ((w.2.1 90 32) - (1 : Int32)))) NT_ok pkX0_in q224 rfl rfl hRm ⟨Nat.le_of_ble_eq_true rfl, Nat.le_of_ble_eq_true rfl⟩ rfl rfl (Nat.le_of_ble_eq_true rfl) ⟨Nat.zero_le _, Nat.zero_le _⟩ eX0_outing_10 ho (fun v1 ho => ?_)
  refine j_if_ne B eX0_outing_13 ho (fun _ ho => ?_) (fun _ ho => ?_)
  · refine j_iload_n B eX0_outing_18 2 rfl ?_
    refine j_if_ne B eX0_outing_19 ho (fun _ ho => ?_) (fun _ ho => ?_)
    · refine j_iload_n B eX0_outing_31 2 rfl ?_
      refine j_const B eX0_outing_32 ?_
      refine j_icmp_ne B eX0_outing_33 ho (fun _ ho => ?_) (fun _ ho => ?_)
      · refine j_iload_n B eX0_outing_45 2 rfl ?_
        refine j_const B eX0_outing_46 ?_
        refine j_icmp_ne B eX0_outing_47 ho (fun _ ho => ?_) (fun _ ho => ?_)
        · refine j_iload_n B eX0_outing_59 2 rfl ?_
          refine j_const B eX0_outing_60 ?_
          refine j_icmp_ne B eX0_outing_61 ho (fun _ ho => ?_) (fun _ ho => ?_)
          · refine j_const B eX0_outing_73 ?_
            exact j_iret B hr hQ eX0_outing_74 ho
          · refine j_aload_n B eX0_outing_64 0 rfl ?_
            refine gfX_28 B eX0_outing_65 ?_
            refine j_iload_n B eX0_outing_68 1 rfl ?_
            refine ldX_28 B eX0_outing_69 ho (fun v2 ho => ?_)
            refine j_goto B eX0_outing_70 ?_
            exact j_iret B hr hQ eX0_outing_74 ho
        · refine j_aload_n B eX0_outing_50 0 rfl ?_
          refine gfX_27 B eX0_outing_51 ?_
          refine j_iload_n B eX0_outing_54 1 rfl ?_
          refine ldX_27 B eX0_outing_55 ho (fun v3 ho => ?_)
          refine j_goto B eX0_outing_56 ?_
          exact j_iret B hr hQ eX0_outing_74 ho
      · refine j_aload_n B eX0_outing_36 0 rfl ?_
        refine gfX_26 B eX0_outing_37 ?_
        refine j_iload_n B eX0_outing_40 1 rfl ?_
        refine ldX_26 B eX0_outing_41 ho (fun v4 ho => ?_)
        refine j_goto B eX0_outing_42 ?_
        exact j_iret B hr hQ eX0_outing_74 ho
    · refine j_aload_n B eX0_outing_22 0 rfl ?_
      refine gfX_25 B eX0_outing_23 ?_
      refine j_iload_n B eX0_outing_26 1 rfl ?_
      refine ldX_25 B eX0_outing_27 ho (fun v5 ho => ?_)
      refine j_goto B eX0_outing_28 ?_
      exact j_iret B hr hQ eX0_outing_74 ho
  · refine j_const B eX0_outing_16 ?_
    exact j_iret B hr hQ eX0_outing_17 ho
def sX_heat (w : Wd) (a1 : Int32) (a2 : Int32) : Option (Int32 × Wd) :=
  bd (sX_isBoat w a1) fun v1 => if v1 = 0 then (some ((-1 : Int32), w)) else (bd (sX_in (Int32.toInt64 a2) (0 : Int64) (1439 : Int64)) fun v2 => if v2 = 0 then (some ((-2 : Int32), w)) else (if (w.2.1 90 37) = (20 : Int32) then (some ((-4 : Int32), w)) else (rd (inb (w.2.1 90 37) 20) (stG w 36 (Int32.toNatClampNeg (w.2.1 90 37)) a1) fun w3 => rd (inb (w3.2.1 90 37) 20) (stG w3 35 (Int32.toNatClampNeg (w3.2.1 90 37)) a2) fun w4 => nm (stG w4 90 37 ((w4.2.1 90 37) + (1 : Int32))) fun w5 => some (((w5.2.1 90 37) - (1 : Int32)), w5))))
abbrev rmX0_heat : Room := { frames := 2, cells := 0, slots := 0, locals := 46 }
theorem pkX0_heat : PkV yX0_heat RX0 cX0_heat 3 (some .int) 2 := ⟨q712, q713, q57, q714, by decide +kernel⟩
set_option maxHeartbeats 4000000 in
theorem met_X0_heat (l : Launch) (D : va_G) (g : Nat → ClassId) (ad sd : Nat → Nat) (w : Wd) (a1 : Int32) (a2 : Int32) (sz : Nat) (r : Int32) (w' : Wd) (ho : sX_heat w a1 a2 = some (r, w')) : Met l yX0_heat (ws_ yX0_heat cX0_heat 3 (some .int)) rmX0_heat (va_Pc [.ref (ad 99), .int a1, .int a2] (MPre D vwCl (tysG g) (cellsX g ad w) (NXX sd (cellsX g ad w)) sz)) (QcI D vwCl (tysG g) (cellsX g ad w') r (va_A (cellsX g ad w) sz)) 0 0 (va_A (cellsX g ad w) sz) := by
  refine met_XJ (cw := cellsX g ad) (w := w) (cc := cX0_heat) (lv := [(0, .ref (ad 99)), (1, .int a1), (2, .int a2)]) pnX0 _ (Nat.le_of_ble_eq_true rfl) rfl ?_
  intro p e s m args below meth c R Q A B hN hr hsz hA hmm hRm hQ hAe
  have hX : NXA sd A s := by rw [hAe, ← hsz]; exact hN
  unfold sX_heat at ho
  refine j_aload_n B eX0_heat_0 0 rfl ?_
  refine j_iload_n B eX0_heat_1 1 rfl ?_
  refine j_callVi (As := [.int a1]) B hA (met_X0_isBoat l D g ad sd w a1) (NXX_ok hX) pkX0_isBoat q337 0 rfl rfl rfl rfl hRm ⟨Nat.le_of_ble_eq_true rfl, Nat.le_of_ble_eq_true rfl⟩ rfl rfl (Nat.le_of_ble_eq_true rfl) ⟨Nat.zero_le _, Nat.zero_le _⟩ eX0_heat_2 ho (fun v1 ho => ?_)
  refine j_if_ne B eX0_heat_5 ho (fun _ ho => ?_) (fun _ ho => ?_)
  · refine j_iload_n B eX0_heat_10 2 rfl ?_
    refine j_i2l B eX0_heat_11 ?_
    refine j_lconst (v := 0) B eX0_heat_12 rfl ?_
    refine j_ldc2 B eX0_heat_13 q715 ?_
    refine j_callSi (As := [.long (Int32.toInt64 a2), .long (0 : Int64), .long (1439 : Int64)]) B hA (met_X0_in l D _ _ _ (Int32.toInt64 a2) (0 : Int64) (1439 : Int64)) NT_ok pkX0_in q224 rfl rfl hRm ⟨Nat.le_of_ble_eq_true rfl, Nat.le_of_ble_eq_true rfl⟩ rfl rfl (Nat.le_of_ble_eq_true rfl) ⟨Nat.zero_le _, Nat.zero_le _⟩ eX0_heat_16 ho (fun v2 ho => ?_)
    refine j_if_ne B eX0_heat_19 ho (fun _ ho => ?_) (fun _ ho => ?_)
    · refine j_aload_n B eX0_heat_25 0 rfl ?_
      refine gfX_37 B eX0_heat_26 ?_
      refine j_const B eX0_heat_29 ?_
      refine j_icmp_ne B eX0_heat_31 ho (fun _ ho => ?_) (fun _ ho => ?_)
      · refine j_aload_n B eX0_heat_37 0 rfl ?_
        refine gfX_36 B eX0_heat_38 ?_
        refine j_aload_n B eX0_heat_41 0 rfl ?_
        refine gfX_37 B eX0_heat_42 ?_
        refine j_iload_n B eX0_heat_45 1 rfl ?_
        refine stX_36 B eX0_heat_46 ho (fun w3 ho => ?_)
        refine j_aload_n B eX0_heat_47 0 rfl ?_
        refine gfX_35 B eX0_heat_48 ?_
        refine j_aload_n B eX0_heat_51 0 rfl ?_
        refine gfX_37 B eX0_heat_52 ?_
        refine j_iload_n B eX0_heat_55 2 rfl ?_
        refine stX_35 B eX0_heat_56 ho (fun w4 ho => ?_)
        refine j_aload_n B eX0_heat_57 0 rfl ?_
        refine j_dup B eX0_heat_58 rfl ?_
        refine gfX_37 B eX0_heat_59 ?_
        refine j_const B eX0_heat_62 ?_
        refine j_iadd B eX0_heat_63 ?_
        refine pfX_37 B eX0_heat_64 ho (fun w5 ho => ?_)
        refine j_aload_n B eX0_heat_67 0 rfl ?_
        refine gfX_37 B eX0_heat_68 ?_
        refine j_const B eX0_heat_71 ?_
        refine j_isub B eX0_heat_72 ?_
        exact j_iretw B hr hQ eX0_heat_73 ho
      · refine j_const B eX0_heat_34 ?_
        exact j_iretw B hr hQ eX0_heat_36 ho
    · refine j_const B eX0_heat_22 ?_
      exact j_iretw B hr hQ eX0_heat_24 ho
  · refine j_const B eX0_heat_8 ?_
    exact j_iretw B hr hQ eX0_heat_9 ho
def sX_near (w : Wd) (a1 : Int32) : Option (Int32 × Wd) :=
  bd (sX_in (Int32.toInt64 a1) (0 : Int64) (999 : Int64)) fun v1 => if v1 = 0 then (some ((-2 : Int32), w)) else (nm (w.2.1 90 38) fun x2 => nm (stG w 90 38 a1) fun w3 => some (x2, w3))
abbrev rmX0_near : Room := { frames := 1, cells := 0, slots := 0, locals := 25 }
theorem pkX0_near : PkV yX0_near RX0 cX0_near 3 (some .int) 1 := ⟨q717, q718, q57, q719, by decide +kernel⟩
set_option maxHeartbeats 4000000 in
theorem met_X0_near (l : Launch) (D : va_G) (g : Nat → ClassId) (ad sd : Nat → Nat) (w : Wd) (a1 : Int32) (sz : Nat) (r : Int32) (w' : Wd) (ho : sX_near w a1 = some (r, w')) : Met l yX0_near (ws_ yX0_near cX0_near 3 (some .int)) rmX0_near (va_Pc [.ref (ad 99), .int a1] (MPre D vwCl (tysG g) (cellsX g ad w) (NXX sd (cellsX g ad w)) sz)) (QcI D vwCl (tysG g) (cellsX g ad w') r (va_A (cellsX g ad w) sz)) 0 0 (va_A (cellsX g ad w) sz) := by
  refine met_XJ (cw := cellsX g ad) (w := w) (cc := cX0_near) (lv := [(0, .ref (ad 99)), (1, .int a1)]) pnX0 _ (Nat.le_of_ble_eq_true rfl) rfl ?_
  intro p e s m args below meth c R Q A B hN hr hsz hA hmm hRm hQ hAe
  have hX : NXA sd A s := by rw [hAe, ← hsz]; exact hN
  unfold sX_near at ho
  refine j_iload_n B eX0_near_0 1 rfl ?_
  refine j_i2l B eX0_near_1 ?_
  refine j_lconst (v := 0) B eX0_near_2 rfl ?_
  refine j_ldc2 B eX0_near_3 q395 ?_
  refine j_callSi (As := [.long (Int32.toInt64 a1), .long (0 : Int64), .long (999 : Int64)]) B hA (met_X0_in l D _ _ _ (Int32.toInt64 a1) (0 : Int64) (999 : Int64)) NT_ok pkX0_in q224 rfl rfl hRm ⟨Nat.le_of_ble_eq_true rfl, Nat.le_of_ble_eq_true rfl⟩ rfl rfl (Nat.le_of_ble_eq_true rfl) ⟨Nat.zero_le _, Nat.zero_le _⟩ eX0_near_6 ho (fun v1 ho => ?_)
  refine j_if_ne B eX0_near_9 ho (fun _ ho => ?_) (fun _ ho => ?_)
  · refine j_aload_n B eX0_near_15 0 rfl ?_
    refine gfX_38 B eX0_near_16 ?_
    refine j_istore_n (lv' := fun x2 => [(0, .ref (ad 99)), (1, .int a1), (2, .int x2)]) B eX0_near_19 [1, 2, 0] (by decide) (fun _ => rfl) ho (fun x2 ho => ?_)
    refine j_aload_n B eX0_near_20 0 rfl ?_
    refine j_iload_n B eX0_near_21 1 rfl ?_
    refine pfX_38 B eX0_near_22 ho (fun w3 ho => ?_)
    refine j_iload_n B eX0_near_25 2 rfl ?_
    exact j_iretw B hr hQ eX0_near_26 ho
  · refine j_const B eX0_near_12 ?_
    exact j_iretw B hr hQ eX0_near_14 ho
def sX_shares_L2 (w : Wd) (a1 : Nat) (a2 : Nat) (J2 : Option (Int32)) : Int32 → Option (Int32) :=
  fx (fun _ => none) (fun self4 x3 =>
    if (8 : Int32) < x3 then (J2) else (gd (decide (a1 < w.1 0)) (rd (decide (a1 < w.1 0) && inb x3 9) (w.2.1 (101 + 10 * a1) (Int32.toNatClampNeg x3)) fun v5 => if v5 = (-1 : Int32) then (nm (x3 + (1 : Int32)) fun x6 => self4 x6) else (gd (decide (a1 < w.1 0)) (rd (decide (a1 < w.1 0) && inb x3 9) (w.2.1 (101 + 10 * a1) (Int32.toNatClampNeg x3)) fun v7 => gd (decide (a2 < w.1 0)) (bd (sB_place w a2 v7) fun v8 => if v8 = (-1 : Int32) then (nm (x3 + (1 : Int32)) fun x9 => self4 x9) else (some (1 : Int32)))))))) FU
def sX_shares (w : Wd) (a1 : Nat) (a2 : Nat) : Option (Int32) :=
  nm (0 : Int32) fun x1 => jn (gd (decide (a1 < w.1 0) && decide (a2 < w.1 0)) (if a1 = a2 then (some (1 : Int32)) else (some (0 : Int32)))) fun J2 => sX_shares_L2 w a1 a2 J2 x1
abbrev rmX0_shares : Room := { frames := 1, cells := 0, slots := 0, locals := 22 }
theorem pkX0_shares : PkV yX0_shares RX0 cX0_shares 4 (some .boolean) 2 := ⟨q733, qs27, q57, q734, by decide +kernel⟩
set_option maxHeartbeats 4000000 in
theorem met_X0_shares (l : Launch) (D : va_G) (g : Nat → ClassId) (ad sd : Nat → Nat) (w : Wd) (a1 : Nat) (a2 : Nat) (sz : Nat) (r : Int32) (ho : sX_shares w a1 a2 = some r) : Met l yX0_shares (ws_ yX0_shares cX0_shares 4 (some .boolean)) rmX0_shares (va_Pc [.ref (ad 99), .ref (ad (100 + 10 * a1)), .ref (ad (100 + 10 * a2))] (MPre D vwCl (tysG g) (cellsX g ad w) (NXX sd (cellsX g ad w)) sz)) (QcI D vwCl (tysG g) (cellsX g ad w) r (va_A (cellsX g ad w) sz)) 0 0 (va_A (cellsX g ad w) sz) := by
  refine met_XJ (cw := cellsX g ad) (w := w) (cc := cX0_shares) (lv := [(0, .ref (ad 99)), (1, .ref (ad (100 + 10 * a1))), (2, .ref (ad (100 + 10 * a2)))]) pnX0 _ (Nat.le_of_ble_eq_true rfl) rfl ?_
  intro p e s m args below meth c R Q A B hN hr hsz hA hmm hRm hQ hAe
  have hX : NXA sd A s := by rw [hAe, ← hsz]; exact hN
  unfold sX_shares at ho
  refine j_const B eX0_shares_0 ?_
  refine j_istore_n (lv' := fun x1 => [(1, .ref (ad (100 + 10 * a1))), (2, .ref (ad (100 + 10 * a2))), (3, .int x1)]) B eX0_shares_1 [2, 3, 0] (by decide) (fun _ => rfl) ho (fun x1 ho => ?_)
  refine jn0 (C := XJ p l e R s m args below meth c 0 0 Q A D vwCl (cellsX g ad) 4 w 40 [(1, .ref (ad (100 + 10 * a1))), (2, .ref (ad (100 + 10 * a2)))] []) ho (fun ho => ?_) (fun J2 hJ2 ho => ?_)
  · refine j_aload_n B eX0_shares_40 0 rfl ?_
    refine j_aload_n B eX0_shares_41 1 rfl ?_
    refine j_acmpB_ne B eX0_shares_42 ho (fun _ ho => ?_) (fun _ ho => ?_)
    · refine j_const B eX0_shares_49 ?_
      exact j_zret B hr rfl hQ eX0_shares_50 ho
    · refine j_const B eX0_shares_45 ?_
      refine j_goto B eX0_shares_46 ?_
      exact j_zret B hr rfl hQ eX0_shares_50 ho
  · unfold sX_shares_L2 at ho
    refine fx1 (C := fun x3 => XJ p l e R s m args below meth c 0 0 Q A D vwCl (cellsX g ad) 4 w 2 [(1, .ref (ad (100 + 10 * a1))), (2, .ref (ad (100 + 10 * a2))), (3, .int x3)] []) (fun self4 hself4 x3 ho => ?_) FU _ ho
    refine j_iload_n B eX0_shares_2 2 rfl ?_
    refine j_const B eX0_shares_3 ?_
    refine j_icmp_gt B eX0_shares_5 ho (fun _ ho => ?_) (fun _ ho => ?_)
    · refine j_lsub (lv' := [(1, .ref (ad (100 + 10 * a1))), (2, .ref (ad (100 + 10 * a2)))]) [0, 1] rfl ?_
      exact hJ2 ho
    · refine j_aload_n B eX0_shares_8 0 rfl ?_
      refine gfBNr (j := 4) B hX (by decide) nq306 rfl eX0_shares_9 ho (fun ho => ?_)
      refine j_iload_n B eX0_shares_12 2 rfl ?_
      refine ldC B eX0_shares_13 ho (fun v5 ho => ?_)
      refine j_const B eX0_shares_14 ?_
      refine j_icmp_eq B eX0_shares_15 ho (fun _ ho => ?_) (fun _ ho => ?_)
      · refine j_iinc (d := 1) (lv' := fun x6 => [(1, .ref (ad (100 + 10 * a1))), (2, .ref (ad (100 + 10 * a2))), (3, .int x6)]) B eX0_shares_34 2 rfl (by decide) [1, 2, 0] (by decide) (fun _ => rfl) ho (fun x6 ho => ?_)
        refine j_goto B eX0_shares_37 ?_
        exact hself4 _ ho
      · refine j_aload_n B eX0_shares_18 1 rfl ?_
        refine j_aload_n B eX0_shares_19 0 rfl ?_
        refine gfBNr (j := 4) B hX (by decide) nq306 rfl eX0_shares_20 ho (fun ho => ?_)
        refine j_iload_n B eX0_shares_23 2 rfl ?_
        refine ldC B eX0_shares_24 ho (fun v7 ho => ?_)
        obtain ⟨hg, ho⟩ := gd_e ho
        refine j_callVi (As := [.int v7]) B hA (met_X7_place l D g ad sd w a2 v7) (NXX_ok hX) pkX7_place q361 _ (at_boat (of_decide_eq_true hg)) rfl rfl rfl hRm ⟨Nat.le_of_ble_eq_true rfl, Nat.le_of_ble_eq_true rfl⟩ rfl rfl (Nat.le_of_ble_eq_true rfl) ⟨Nat.zero_le _, Nat.zero_le _⟩ eX0_shares_25 ho (fun v8 ho => ?_)
        refine j_const B eX0_shares_28 ?_
        refine j_icmp_eq B eX0_shares_29 ho (fun _ ho => ?_) (fun _ ho => ?_)
        · refine j_iinc (d := 1) (lv' := fun x9 => [(1, .ref (ad (100 + 10 * a1))), (2, .ref (ad (100 + 10 * a2))), (3, .int x9)]) B eX0_shares_34 2 rfl (by decide) [1, 2, 0] (by decide) (fun _ => rfl) ho (fun x9 ho => ?_)
          refine j_goto B eX0_shares_37 ?_
          exact hself4 _ ho
        · refine j_const B eX0_shares_32 ?_
          exact j_zret B hr rfl hQ eX0_shares_33 ho
def sX_clash (w : Wd) (a1 : Int32) (a2 : Int32) : Option (Int32) :=
  if a1 = a2 then (some (0 : Int32)) else (rd (inb a1 20) (w.2.1 35 (Int32.toNatClampNeg a1)) fun v1 => rd (inb a2 20) (w.2.1 35 (Int32.toNatClampNeg a2)) fun v2 => bd (sJ0_abs_2 (v1 - v2)) fun v3 => if (w.2.1 90 38) ≤ v3 then (some (0 : Int32)) else (rd (inb a1 20) (w.2.1 36 (Int32.toNatClampNeg a1)) fun v4 => rd (inb v4 8 && decide (Int32.toNatClampNeg v4 < w.1 3)) (Int32.toNatClampNeg v4) fun k5 => rd (inb a2 20) (w.2.1 36 (Int32.toNatClampNeg a2)) fun v6 => rd (inb v6 8 && decide (Int32.toNatClampNeg v6 < w.1 3)) (Int32.toNatClampNeg v6) fun k7 => bd (sX_shares w k5 k7) fun v8 => if v8 = 0 then (some (0 : Int32)) else (some (1 : Int32))))
abbrev rmX0_clash : Room := { frames := 2, cells := 0, slots := 0, locals := 45 }
theorem pkX0_clash : PkV yX0_clash RX0 cX0_clash 3 (some .boolean) 2 := ⟨q726, qs26, q57, q727, by decide +kernel⟩
set_option maxHeartbeats 4000000 in
theorem met_X0_clash (l : Launch) (D : va_G) (g : Nat → ClassId) (ad sd : Nat → Nat) (w : Wd) (a1 : Int32) (a2 : Int32) (sz : Nat) (r : Int32) (ho : sX_clash w a1 a2 = some r) : Met l yX0_clash (ws_ yX0_clash cX0_clash 3 (some .boolean)) rmX0_clash (va_Pc [.ref (ad 99), .int a1, .int a2] (MPre D vwCl (tysG g) (cellsX g ad w) (NXX sd (cellsX g ad w)) sz)) (QcI D vwCl (tysG g) (cellsX g ad w) r (va_A (cellsX g ad w) sz)) 0 0 (va_A (cellsX g ad w) sz) := by
  refine met_XJ (cw := cellsX g ad) (w := w) (cc := cX0_clash) (lv := [(0, .ref (ad 99)), (1, .int a1), (2, .int a2)]) pnX0 _ (Nat.le_of_ble_eq_true rfl) rfl ?_
  intro p e s m args below meth c R Q A B hN hr hsz hA hmm hRm hQ hAe
  have hX : NXA sd A s := by rw [hAe, ← hsz]; exact hN
  unfold sX_clash at ho
  refine j_iload_n B eX0_clash_0 1 rfl ?_
  refine j_iload_n B eX0_clash_1 2 rfl ?_
  refine j_icmp_eq B eX0_clash_2 ho (fun _ ho => ?_) (fun _ ho => ?_)
  · refine j_const B eX0_clash_61 ?_
    exact j_zret B hr rfl hQ eX0_clash_62 ho
  · refine j_aload_n B eX0_clash_5 0 rfl ?_
    refine gfX_35 B eX0_clash_6 ?_
    refine j_iload_n B eX0_clash_9 1 rfl ?_
    refine ldX_35 B eX0_clash_10 ho (fun v1 ho => ?_)
    refine j_aload_n B eX0_clash_11 0 rfl ?_
    refine gfX_35 B eX0_clash_12 ?_
    refine j_iload_n B eX0_clash_15 2 rfl ?_
    refine ldX_35 B eX0_clash_16 ho (fun v2 ho => ?_)
    refine j_isub B eX0_clash_17 ?_
    refine j_callSi (As := [.int (v1 - v2)]) B hA (met_J0_abs_2 l D _ _ _ (v1 - v2)) NT_ok pkJ0_abs_2 q728 rfl rfl hRm ⟨Nat.le_of_ble_eq_true rfl, Nat.le_of_ble_eq_true rfl⟩ rfl rfl (Nat.le_of_ble_eq_true rfl) ⟨Nat.zero_le _, Nat.zero_le _⟩ eX0_clash_18 ho (fun v3 ho => ?_)
    refine j_aload_n B eX0_clash_21 0 rfl ?_
    refine gfX_38 B eX0_clash_22 ?_
    refine j_icmp_ge B eX0_clash_25 ho (fun _ ho => ?_) (fun _ ho => ?_)
    · refine j_const B eX0_clash_61 ?_
      exact j_zret B hr rfl hQ eX0_clash_62 ho
    · refine j_aload_n B eX0_clash_28 0 rfl ?_
      refine j_aload_n B eX0_clash_29 0 rfl ?_
      refine gfX_1 B eX0_clash_30 ?_
      refine j_aload_n B eX0_clash_33 0 rfl ?_
      refine gfX_36 B eX0_clash_34 ?_
      refine j_iload_n B eX0_clash_37 1 rfl ?_
      refine ldX_36 B eX0_clash_38 ho (fun v4 ho => ?_)
      refine alX_1 B eX0_clash_39 ho (fun k5 ho => ?_)
      refine j_aload_n B eX0_clash_40 0 rfl ?_
      refine gfX_1 B eX0_clash_41 ?_
      refine j_aload_n B eX0_clash_44 0 rfl ?_
      refine gfX_36 B eX0_clash_45 ?_
      refine j_iload_n B eX0_clash_48 2 rfl ?_
      refine ldX_36 B eX0_clash_49 ho (fun v6 ho => ?_)
      refine alX_1 B eX0_clash_50 ho (fun k7 ho => ?_)
      refine j_callVi (As := [.ref (ad (100 + 10 * k5)), .ref (ad (100 + 10 * k7))]) B hA (met_X0_shares l D g ad sd w k5 k7) (NXX_ok hX) pkX0_shares q731 0 rfl rfl rfl rfl hRm ⟨Nat.le_of_ble_eq_true rfl, Nat.le_of_ble_eq_true rfl⟩ rfl rfl (Nat.le_of_ble_eq_true rfl) ⟨Nat.zero_le _, Nat.zero_le _⟩ eX0_clash_51 ho (fun v8 ho => ?_)
      refine j_if_eq B eX0_clash_54 ho (fun _ ho => ?_) (fun _ ho => ?_)
      · refine j_const B eX0_clash_61 ?_
        exact j_zret B hr rfl hQ eX0_clash_62 ho
      · refine j_const B eX0_clash_57 ?_
        refine j_goto B eX0_clash_58 ?_
        exact j_zret B hr rfl hQ eX0_clash_62 ho
def sX_clashes_L16 (w : Wd) (x4 : Int32) (self5 : Int32 → Int32 → Option (Int32)) : Int32 → Int32 → Option (Int32) :=
  fx (fun _ _ => none) (fun self9 x7 x8 =>
    if (w.2.1 90 37) ≤ x8 then (nm (x4 + (1 : Int32)) fun x10 => self5 x7 x10) else (bd (sX_clash w x4 x8) fun v11 => if v11 = 0 then (nm (x8 + (1 : Int32)) fun x12 => self9 x7 x12) else (nm (x7 + (1 : Int32)) fun x13 => nm (x8 + (1 : Int32)) fun x14 => self9 x13 x14))) FU
def sX_clashes_L4 (w : Wd) : Int32 → Int32 → Option (Int32) :=
  fx (fun _ _ => none) (fun self5 x3 x4 =>
    if (w.2.1 90 37) ≤ x4 then (some x3) else (nm (x4 + (1 : Int32)) fun x6 => sX_clashes_L16 w x4 self5 x3 x6)) FU
def sX_clashes (w : Wd)  : Option (Int32) :=
  nm (0 : Int32) fun x1 => nm (0 : Int32) fun x2 => sX_clashes_L4 w x1 x2
abbrev rmX0_clashes : Room := { frames := 3, cells := 0, slots := 0, locals := 67 }
theorem pkX0_clashes : PkV yX0_clashes RX0 cX0_clashes 4 (some .int) 0 := ⟨q721, q722, q57, q723, by decide +kernel⟩
set_option maxHeartbeats 4000000 in
theorem met_X0_clashes (l : Launch) (D : va_G) (g : Nat → ClassId) (ad sd : Nat → Nat) (w : Wd)  (sz : Nat) (r : Int32) (ho : sX_clashes w = some r) : Met l yX0_clashes (ws_ yX0_clashes cX0_clashes 4 (some .int)) rmX0_clashes (va_Pc [.ref (ad 99)] (MPre D vwCl (tysG g) (cellsX g ad w) (NXX sd (cellsX g ad w)) sz)) (QcI D vwCl (tysG g) (cellsX g ad w) r (va_A (cellsX g ad w) sz)) 0 0 (va_A (cellsX g ad w) sz) := by
  refine met_XJ (cw := cellsX g ad) (w := w) (cc := cX0_clashes) (lv := [(0, .ref (ad 99))]) pnX0 _ (Nat.le_of_ble_eq_true rfl) rfl ?_
  intro p e s m args below meth c R Q A B hN hr hsz hA hmm hRm hQ hAe
  have hX : NXA sd A s := by rw [hAe, ← hsz]; exact hN
  unfold sX_clashes at ho
  refine j_const B eX0_clashes_0 ?_
  refine j_istore_n (lv' := fun x1 => [(0, .ref (ad 99)), (1, .int x1)]) B eX0_clashes_1 [1, 0] (by decide) (fun _ => rfl) ho (fun x1 ho => ?_)
  refine j_const B eX0_clashes_2 ?_
  refine j_istore_n (lv' := fun x2 => [(0, .ref (ad 99)), (1, .int x1), (2, .int x2)]) B eX0_clashes_3 [1, 2, 0] (by decide) (fun _ => rfl) ho (fun x2 ho => ?_)
  unfold sX_clashes_L4 at ho
  refine fx2 (C := fun x3 x4 => XJ p l e R s m args below meth c 0 0 Q A D vwCl (cellsX g ad) 4 w 4 [(0, .ref (ad 99)), (1, .int x3), (2, .int x4)] []) (fun self5 hself5 x3 x4 ho => ?_) FU _ _ ho
  refine j_iload_n B eX0_clashes_4 2 rfl ?_
  refine j_aload_n B eX0_clashes_5 0 rfl ?_
  refine gfX_37 B eX0_clashes_6 ?_
  refine j_icmp_ge B eX0_clashes_9 ho (fun _ ho => ?_) (fun _ ho => ?_)
  · refine j_iload_n B eX0_clashes_48 1 rfl ?_
    exact j_iret B hr hQ eX0_clashes_49 ho
  · refine j_iload_n B eX0_clashes_12 2 rfl ?_
    refine j_const B eX0_clashes_13 ?_
    refine j_iadd B eX0_clashes_14 ?_
    refine j_istore_n (lv' := fun x6 => [(0, .ref (ad 99)), (1, .int x3), (2, .int x4), (3, .int x6)]) B eX0_clashes_15 [1, 2, 3, 0] (by decide) (fun _ => rfl) ho (fun x6 ho => ?_)
    unfold sX_clashes_L16 at ho
    refine fx2 (C := fun x7 x8 => XJ p l e R s m args below meth c 0 0 Q A D vwCl (cellsX g ad) 4 w 16 [(0, .ref (ad 99)), (1, .int x7), (2, .int x4), (3, .int x8)] []) (fun self9 hself9 x7 x8 ho => ?_) FU _ _ ho
    refine j_iload_n B eX0_clashes_16 3 rfl ?_
    refine j_aload_n B eX0_clashes_17 0 rfl ?_
    refine gfX_37 B eX0_clashes_18 ?_
    refine j_icmp_ge B eX0_clashes_21 ho (fun _ ho => ?_) (fun _ ho => ?_)
    · refine j_iinc (d := 1) (lv' := fun x10 => [(0, .ref (ad 99)), (1, .int x7), (2, .int x10)]) B eX0_clashes_42 2 rfl (by decide) [1, 2, 0] (by decide) (fun _ => rfl) ho (fun x10 ho => ?_)
      refine j_goto B eX0_clashes_45 ?_
      exact hself5 _ _ ho
    · refine j_aload_n B eX0_clashes_24 0 rfl ?_
      refine j_iload_n B eX0_clashes_25 2 rfl ?_
      refine j_iload_n B eX0_clashes_26 3 rfl ?_
      refine j_callVi (As := [.int x4, .int x8]) B hA (met_X0_clash l D g ad sd w x4 x8) (NXX_ok hX) pkX0_clash q724 0 rfl rfl rfl rfl hRm ⟨Nat.le_of_ble_eq_true rfl, Nat.le_of_ble_eq_true rfl⟩ rfl rfl (Nat.le_of_ble_eq_true rfl) ⟨Nat.zero_le _, Nat.zero_le _⟩ eX0_clashes_27 ho (fun v11 ho => ?_)
      refine j_if_eq B eX0_clashes_30 ho (fun _ ho => ?_) (fun _ ho => ?_)
      · refine j_iinc (d := 1) (lv' := fun x12 => [(0, .ref (ad 99)), (1, .int x7), (2, .int x4), (3, .int x12)]) B eX0_clashes_36 3 rfl (by decide) [1, 2, 3, 0] (by decide) (fun _ => rfl) ho (fun x12 ho => ?_)
        refine j_goto B eX0_clashes_39 ?_
        exact hself9 _ _ ho
      · refine j_iinc (d := 1) (lv' := fun x13 => [(0, .ref (ad 99)), (1, .int x13), (2, .int x4), (3, .int x8)]) B eX0_clashes_33 1 rfl (by decide) [1, 0, 2, 3] (by decide) (fun _ => rfl) ho (fun x13 ho => ?_)
        refine j_iinc (d := 1) (lv' := fun x14 => [(0, .ref (ad 99)), (1, .int x13), (2, .int x4), (3, .int x14)]) B eX0_clashes_36 3 rfl (by decide) [1, 2, 3, 0] (by decide) (fun _ => rfl) ho (fun x14 ho => ?_)
        refine j_goto B eX0_clashes_39 ?_
        exact hself9 _ _ ho
def sX_shift_L57 (a1 : Int32) (w14 : Wd) (J18 : Int32 → Option (Int32 × Wd)) : Int32 → Int32 → Option (Int32 × Wd) :=
  fx (fun _ _ => none) (fun self24 x22 x23 =>
    if (w14.2.1 90 37) ≤ x23 then (J18 x22) else (bd (sX_clash w14 a1 x23) fun v25 => nm (x22 ||| v25) fun x26 => nm (x23 + (1 : Int32)) fun x27 => self24 x26 x27)) FU
def sX_shift_L30 (a1 : Int32) (J8 : Int32 → Wd → Option (Int32 × Wd)) : Int32 → Int32 → Wd → Option (Int32 × Wd) :=
  fx (fun _ _ _ => none) (fun self13 x10 x11 w12 =>
    if (1440 : Int32) ≤ x11 then (J8 x10 w12) else (if x10 = (-1 : Int32) then (rd (inb a1 20) (stG w12 35 (Int32.toNatClampNeg a1) x11) fun w14 => nm (0 : Int32) fun x15 => nm (0 : Int32) fun x16 => jn (fun x17 => if x17 = 0 then (nm x11 fun x20 => nm (x11 + (1 : Int32)) fun x21 => self13 x20 x21 w14) else (nm (x11 + (1 : Int32)) fun x19 => self13 x10 x19 w14)) fun J18 => sX_shift_L57 a1 w14 J18 x15 x16) else (J8 x10 w12))) FU
def sX_shift (w : Wd) (a1 : Int32) : Option (Int32 × Wd) :=
  bd (sX_in (Int32.toInt64 a1) (0 : Int64) (Int32.toInt64 ((w.2.1 90 37) - (1 : Int32)))) fun v1 => if v1 = 0 then (some ((-1 : Int32), w)) else (rd (inb a1 20) (w.2.1 35 (Int32.toNatClampNeg a1)) fun v2 => nm v2 fun x3 => nm (-1 : Int32) fun x4 => nm x3 fun x5 => jn (fun x6 w7 => rd (inb a1 20) (stG w7 35 (Int32.toNatClampNeg a1) x3) fun w9 => if x6 = (-1 : Int32) then (some ((-3 : Int32), w9)) else (some (x6, w9))) fun J8 => sX_shift_L30 a1 J8 x4 x5 w)
abbrev rmX0_shift : Room := { frames := 3, cells := 0, slots := 0, locals := 67 }
theorem pkX0_shift : PkV yX0_shift RX0 cX0_shift 7 (some .int) 1 := ⟨q736, q737, q57, q738, by decide +kernel⟩
set_option maxHeartbeats 4000000 in
theorem met_X0_shift (l : Launch) (D : va_G) (g : Nat → ClassId) (ad sd : Nat → Nat) (w : Wd) (a1 : Int32) (sz : Nat) (r : Int32) (w' : Wd) (ho : sX_shift w a1 = some (r, w')) : Met l yX0_shift (ws_ yX0_shift cX0_shift 7 (some .int)) rmX0_shift (va_Pc [.ref (ad 99), .int a1] (MPre D vwCl (tysG g) (cellsX g ad w) (NXX sd (cellsX g ad w)) sz)) (QcI D vwCl (tysG g) (cellsX g ad w') r (va_A (cellsX g ad w) sz)) 0 0 (va_A (cellsX g ad w) sz) := by
  refine met_XJ (cw := cellsX g ad) (w := w) (cc := cX0_shift) (lv := [(0, .ref (ad 99)), (1, .int a1)]) pnX0 _ (Nat.le_of_ble_eq_true rfl) rfl ?_
  intro p e s m args below meth c R Q A B hN hr hsz hA hmm hRm hQ hAe
  have hX : NXA sd A s := by rw [hAe, ← hsz]; exact hN
  unfold sX_shift at ho
  refine j_iload_n B eX0_shift_0 1 rfl ?_
  refine j_i2l B eX0_shift_1 ?_
  refine j_lconst (v := 0) B eX0_shift_2 rfl ?_
  refine j_aload_n B eX0_shift_3 0 rfl ?_
  refine gfX_37 B eX0_shift_4 ?_
  refine j_const B eX0_shift_7 ?_
  refine j_isub B eX0_shift_8 ?_
  refine j_i2l B eX0_shift_9 ?_
  refine j_callSi (As := [.long (Int32.toInt64 a1), .long (0 : Int64), .long (Int32.toInt64 ((w.2.1 90 37) - (1 : Int32)))]) B hA (met_X0_in l D _ _ _ (Int32.toInt64 a1) (0 : Int64) (Int32.toInt64 ((w.2.1 90 37) - (1 : Int32)))) NT_ok pkX0_in q224 rfl rfl hRm ⟨Nat.le_of_ble_eq_true rfl, Nat.le_of_ble_eq_true rfl⟩ rfl rfl (Nat.le_of_ble_eq_true rfl) ⟨Nat.zero_le _, Nat.zero_le _⟩ eX0_shift_10 ho (fun v1 ho => ?_)
  refine j_if_ne B eX0_shift_13 ho (fun _ ho => ?_) (fun _ ho => ?_)
  · refine j_aload_n B eX0_shift_18 0 rfl ?_
    refine gfX_35 B eX0_shift_19 ?_
    refine j_iload_n B eX0_shift_22 1 rfl ?_
    refine ldX_35 B eX0_shift_23 ho (fun v2 ho => ?_)
    refine j_istore_n (lv' := fun x3 => [(0, .ref (ad 99)), (1, .int a1), (2, .int x3)]) B eX0_shift_24 [1, 2, 0] (by decide) (fun _ => rfl) ho (fun x3 ho => ?_)
    refine j_const B eX0_shift_25 ?_
    refine j_istore_n (lv' := fun x4 => [(0, .ref (ad 99)), (1, .int a1), (2, .int x3), (3, .int x4)]) B eX0_shift_26 [1, 2, 3, 0] (by decide) (fun _ => rfl) ho (fun x4 ho => ?_)
    refine j_iload_n B eX0_shift_27 2 rfl ?_
    refine j_istore (lv' := fun x5 => [(0, .ref (ad 99)), (1, .int a1), (2, .int x3), (3, .int x4), (4, .int x5)]) B eX0_shift_28 [1, 2, 3, 4, 0] (by decide) (fun _ => rfl) ho (fun x5 ho => ?_)
    refine jn2 (C := fun x6 w7 => XJ p l e R s m args below meth c 0 0 Q A D vwCl (cellsX g ad) 7 w7 98 [(0, .ref (ad 99)), (1, .int a1), (2, .int x3), (3, .int x6)] []) ho (fun x6 w7 ho => ?_) (fun J8 hJ8 ho => ?_)
    · refine j_aload_n B eX0_shift_98 0 rfl ?_
      refine gfX_35 B eX0_shift_99 ?_
      refine j_iload_n B eX0_shift_102 1 rfl ?_
      refine j_iload_n B eX0_shift_103 2 rfl ?_
      refine stX_35 B eX0_shift_104 ho (fun w9 ho => ?_)
      refine j_iload_n B eX0_shift_105 3 rfl ?_
      refine j_const B eX0_shift_106 ?_
      refine j_icmp_ne B eX0_shift_107 ho (fun _ ho => ?_) (fun _ ho => ?_)
      · refine j_iload_n B eX0_shift_115 3 rfl ?_
        exact j_iretw B hr hQ eX0_shift_116 ho
      · refine j_const B eX0_shift_110 ?_
        refine j_goto B eX0_shift_112 ?_
        exact j_iretw B hr hQ eX0_shift_116 ho
    · unfold sX_shift_L30 at ho
      refine fx3 (C := fun x10 x11 w12 => XJ p l e R s m args below meth c 0 0 Q A D vwCl (cellsX g ad) 7 w12 30 [(0, .ref (ad 99)), (1, .int a1), (2, .int x3), (3, .int x10), (4, .int x11)] []) (fun self13 hself13 x10 x11 w12 ho => ?_) FU _ _ _ ho
      refine j_iload B eX0_shift_30 4 rfl ?_
      refine j_const B eX0_shift_32 ?_
      refine j_icmp_ge B eX0_shift_35 ho (fun _ ho => ?_) (fun _ ho => ?_)
      · refine j_lsub (lv' := [(0, .ref (ad 99)), (1, .int a1), (2, .int x3), (3, .int x10)]) [0, 1, 2, 3] rfl ?_
        exact hJ8 _ _ ho
      · refine j_iload_n B eX0_shift_38 3 rfl ?_
        refine j_const B eX0_shift_39 ?_
        refine j_icmp_ne B eX0_shift_40 ho (fun _ ho => ?_) (fun _ ho => ?_)
        · refine j_lsub (lv' := [(0, .ref (ad 99)), (1, .int a1), (2, .int x3), (3, .int x10)]) [0, 1, 2, 3] rfl ?_
          exact hJ8 _ _ ho
        · refine j_aload_n B eX0_shift_43 0 rfl ?_
          refine gfX_35 B eX0_shift_44 ?_
          refine j_iload_n B eX0_shift_47 1 rfl ?_
          refine j_iload B eX0_shift_48 4 rfl ?_
          refine stX_35 B eX0_shift_50 ho (fun w14 ho => ?_)
          refine j_const B eX0_shift_51 ?_
          refine j_istore (lv' := fun x15 => [(0, .ref (ad 99)), (1, .int a1), (2, .int x3), (3, .int x10), (4, .int x11), (5, .int x15)]) B eX0_shift_52 [1, 2, 3, 4, 5, 0] (by decide) (fun _ => rfl) ho (fun x15 ho => ?_)
          refine j_const B eX0_shift_54 ?_
          refine j_istore (lv' := fun x16 => [(0, .ref (ad 99)), (1, .int a1), (2, .int x3), (3, .int x10), (4, .int x11), (5, .int x15), (6, .int x16)]) B eX0_shift_55 [1, 2, 3, 4, 5, 6, 0] (by decide) (fun _ => rfl) ho (fun x16 ho => ?_)
          refine jn1 (C := fun x17 => XJ p l e R s m args below meth c 0 0 Q A D vwCl (cellsX g ad) 7 w14 84 [(0, .ref (ad 99)), (1, .int a1), (2, .int x3), (3, .int x10), (4, .int x11), (5, .int x17)] []) ho (fun x17 ho => ?_) (fun J18 hJ18 ho => ?_)
          · refine j_iload B eX0_shift_84 5 rfl ?_
            refine j_if_ne B eX0_shift_86 ho (fun _ ho => ?_) (fun _ ho => ?_)
            · refine j_iinc (d := 1) (lv' := fun x19 => [(0, .ref (ad 99)), (1, .int a1), (2, .int x3), (3, .int x10), (4, .int x19)]) B eX0_shift_92 4 rfl (by decide) [1, 2, 3, 4, 0] (by decide) (fun _ => rfl) ho (fun x19 ho => ?_)
              refine j_goto B eX0_shift_95 ?_
              exact hself13 _ _ _ ho
            · refine j_iload B eX0_shift_89 4 rfl ?_
              refine j_istore_n (lv' := fun x20 => [(0, .ref (ad 99)), (1, .int a1), (2, .int x3), (3, .int x20), (4, .int x11)]) B eX0_shift_91 [1, 2, 3, 0, 4] (by decide) (fun _ => rfl) ho (fun x20 ho => ?_)
              refine j_iinc (d := 1) (lv' := fun x21 => [(0, .ref (ad 99)), (1, .int a1), (2, .int x3), (3, .int x20), (4, .int x21)]) B eX0_shift_92 4 rfl (by decide) [1, 2, 3, 4, 0] (by decide) (fun _ => rfl) ho (fun x21 ho => ?_)
              refine j_goto B eX0_shift_95 ?_
              exact hself13 _ _ _ ho
          · unfold sX_shift_L57 at ho
            refine fx2 (C := fun x22 x23 => XJ p l e R s m args below meth c 0 0 Q A D vwCl (cellsX g ad) 7 w14 57 [(0, .ref (ad 99)), (1, .int a1), (2, .int x3), (3, .int x10), (4, .int x11), (5, .int x22), (6, .int x23)] []) (fun self24 hself24 x22 x23 ho => ?_) FU _ _ ho
            refine j_iload B eX0_shift_57 6 rfl ?_
            refine j_aload_n B eX0_shift_59 0 rfl ?_
            refine gfX_37 B eX0_shift_60 ?_
            refine j_icmp_ge B eX0_shift_63 ho (fun _ ho => ?_) (fun _ ho => ?_)
            · refine j_lsub (lv' := [(0, .ref (ad 99)), (1, .int a1), (2, .int x3), (3, .int x10), (4, .int x11), (5, .int x22)]) [0, 1, 2, 3, 4, 5] rfl ?_
              exact hJ18 _ ho
            · refine j_iload B eX0_shift_66 5 rfl ?_
              refine j_aload_n B eX0_shift_68 0 rfl ?_
              refine j_iload_n B eX0_shift_69 1 rfl ?_
              refine j_iload B eX0_shift_70 6 rfl ?_
              refine j_callVi (As := [.int a1, .int x23]) B hA (met_X0_clash l D g ad sd w14 a1 x23) (NXX_ok hX) pkX0_clash q724 0 rfl rfl rfl rfl hRm ⟨Nat.le_of_ble_eq_true rfl, Nat.le_of_ble_eq_true rfl⟩ rfl rfl (Nat.le_of_ble_eq_true rfl) ⟨Nat.zero_le _, Nat.zero_le _⟩ eX0_shift_72 ho (fun v25 ho => ?_)
              refine j_ior B eX0_shift_75 ?_
              refine j_istore (lv' := fun x26 => [(0, .ref (ad 99)), (1, .int a1), (2, .int x3), (3, .int x10), (4, .int x11), (5, .int x26), (6, .int x23)]) B eX0_shift_76 [1, 2, 3, 4, 5, 0, 6] (by decide) (fun _ => rfl) ho (fun x26 ho => ?_)
              refine j_iinc (d := 1) (lv' := fun x27 => [(0, .ref (ad 99)), (1, .int a1), (2, .int x3), (3, .int x10), (4, .int x11), (5, .int x26), (6, .int x27)]) B eX0_shift_78 6 rfl (by decide) [1, 2, 3, 4, 5, 6, 0] (by decide) (fun _ => rfl) ho (fun x27 ho => ?_)
              refine j_goto B eX0_shift_81 ?_
              exact hself24 _ _ ho
  · refine j_const B eX0_shift_16 ?_
    exact j_iretw B hr hQ eX0_shift_17 ho
def sX_trailer_L112 (a1 : Int32) (J22 : Wd → Option (Int32 × Wd)) : Int32 → Int32 → Wd → Option (Int32 × Wd) :=
  fx (fun _ _ _ => none) (fun self38 x35 x36 w37 =>
    if x36 < 0 then (J22 w37) else (if ((a1 >>> (x36 &&& 31)) &&& (1 : Int32)) = 0 then (nm (x36 + (-1 : Int32)) fun x45 => self38 x35 x45 w37) else (rd (inb (irm x35 (3 : Int32)) 3) (w37.2.1 39 (Int32.toNatClampNeg (irm x35 (3 : Int32)))) fun v39 => rd (inb x36 8 && decide (Int32.toNatClampNeg x36 < w37.1 3)) (Int32.toNatClampNeg x36) fun k40 => rd (decide (k40 < w37.1 0)) (w37.2.1 (100 + 10 * k40) 3) fun v41 => rd (inb (irm x35 (3 : Int32)) 3) (stG w37 39 (Int32.toNatClampNeg (irm x35 (3 : Int32))) (v39 + v41)) fun w42 => nm (x35 / (3 : Int32)) fun x43 => nm (x36 + (-1 : Int32)) fun x44 => self38 x43 x44 w42))) FU
def sX_trailer_L80 (J18 : Wd → Option (Int32 × Wd)) : Int32 → Wd → Option (Int32 × Wd) :=
  fx (fun _ _ => none) (fun self48 x46 w47 =>
    if (3 : Int32) ≤ x46 then (J18 w47) else (rd (inb x46 3) (stG w47 39 (Int32.toNatClampNeg x46) (0 : Int32)) fun w49 => nm (x46 + (1 : Int32)) fun x50 => self48 x50 w49)) FU
def sX_trailer_L70 (a1 : Int32) (a2 : Int32) (x5 : Int32) (J10 : Int32 → Wd → Option (Int32 × Wd)) : Int32 → Int32 → Wd → Option (Int32 × Wd) :=
  fx (fun _ _ _ => none) (fun self15 x12 x13 w14 =>
    if x5 ≤ x13 then (J10 x12 w14) else (nm (0 : Int32) fun x16 => jn (fun w17 => nm x13 fun x19 => nm ((w17.2.1 90 3) - (1 : Int32)) fun x20 => jn (fun w21 => rd (inb (0 : Int32) 3) (w21.2.1 39 (Int32.toNatClampNeg (0 : Int32))) fun v23 => rd (inb (1 : Int32) 3) (w21.2.1 39 (Int32.toNatClampNeg (1 : Int32))) fun v24 => rd (inb (2 : Int32) 3) (w21.2.1 39 (Int32.toNatClampNeg (2 : Int32))) fun v25 => bd (sJ0_max v24 v25) fun v26 => bd (sJ0_max v23 v26) fun v27 => nm v27 fun x28 => if a2 < x28 then (nm (x13 + (1 : Int32)) fun x29 => self15 x12 x29 w21) else (jn (nm x28 fun x31 => nm (stG w21 90 40 x13) fun w32 => nm (x13 + (1 : Int32)) fun x33 => self15 x31 x33 w32) fun J30 => if x12 = (-1 : Int32) then (J30) else (if x28 < x12 then (J30) else (nm (x13 + (1 : Int32)) fun x34 => self15 x12 x34 w21)))) fun J22 => sX_trailer_L112 a1 J22 x19 x20 w17) fun J18 => sX_trailer_L80 J18 x16 w14)) FU
def sX_trailer_L36 (w : Wd) (a1 : Int32) (J6 : Int32 → Option (Int32 × Wd)) : Int32 → Int32 → Option (Int32 × Wd) :=
  fx (fun _ _ => none) (fun self53 x51 x52 =>
    if (w.2.1 90 3) ≤ x52 then (J6 x51) else (if ((a1 >>> (x52 &&& 31)) &&& (1 : Int32)) = (1 : Int32) then (nm (x51 * (3 : Int32)) fun x55 => nm (x52 + (1 : Int32)) fun x56 => self53 x55 x56) else (nm (x52 + (1 : Int32)) fun x54 => self53 x51 x54))) FU
def sX_trailer (w : Wd) (a1 : Int32) (a2 : Int32) : Option (Int32 × Wd) :=
  if a1 < 0 then (some ((-2 : Int32), w)) else (if (a1 >>> ((w.2.1 90 3) &&& 31)) = 0 then (bd (sX_in (Int32.toInt64 a2) (1 : Int64) (999 : Int64)) fun v1 => if v1 = 0 then (some ((-2 : Int32), w)) else (nm (-1 : Int32) fun x2 => nm (1 : Int32) fun x3 => nm (0 : Int32) fun x4 => jn (fun x5 => nm (0 : Int32) fun x7 => jn (fun x8 w9 => if x8 = (-1 : Int32) then (some ((-3 : Int32), w9)) else (nm (stG w9 90 41 a1) fun w11 => some (x8, w11))) fun J10 => sX_trailer_L70 a1 a2 x5 J10 x2 x7 w) fun J6 => sX_trailer_L36 w a1 J6 x3 x4)) else (some ((-2 : Int32), w)))
abbrev rmX0_trailer : Room := { frames := 1, cells := 0, slots := 0, locals := 25 }
theorem pkX0_trailer : PkV yX0_trailer RX0 cX0_trailer 8 (some .int) 2 := ⟨q740, q741, q57, q742, by decide +kernel⟩
set_option maxHeartbeats 4000000 in
theorem met_X0_trailer (l : Launch) (D : va_G) (g : Nat → ClassId) (ad sd : Nat → Nat) (w : Wd) (a1 : Int32) (a2 : Int32) (sz : Nat) (r : Int32) (w' : Wd) (ho : sX_trailer w a1 a2 = some (r, w')) : Met l yX0_trailer (ws_ yX0_trailer cX0_trailer 8 (some .int)) rmX0_trailer (va_Pc [.ref (ad 99), .int a1, .int a2] (MPre D vwCl (tysG g) (cellsX g ad w) (NXX sd (cellsX g ad w)) sz)) (QcI D vwCl (tysG g) (cellsX g ad w') r (va_A (cellsX g ad w) sz)) 0 0 (va_A (cellsX g ad w) sz) := by
  refine met_XJ (cw := cellsX g ad) (w := w) (cc := cX0_trailer) (lv := [(0, .ref (ad 99)), (1, .int a1), (2, .int a2)]) pnX0 _ (Nat.le_of_ble_eq_true rfl) rfl ?_
  intro p e s m args below meth c R Q A B hN hr hsz hA hmm hRm hQ hAe
  have hX : NXA sd A s := by rw [hAe, ← hsz]; exact hN
  unfold sX_trailer at ho
  refine j_iload_n B eX0_trailer_0 1 rfl ?_
  refine j_if_lt B eX0_trailer_1 ho (fun _ ho => ?_) (fun _ ho => ?_)
  · refine j_const B eX0_trailer_25 ?_
    exact j_iretw B hr hQ eX0_trailer_27 ho
  · refine j_iload_n B eX0_trailer_4 1 rfl ?_
    refine j_aload_n B eX0_trailer_5 0 rfl ?_
    refine gfX_3 B eX0_trailer_6 ?_
    refine j_ishr B eX0_trailer_9 ?_
    refine j_if_ne B eX0_trailer_10 ho (fun _ ho => ?_) (fun _ ho => ?_)
    · refine j_const B eX0_trailer_25 ?_
      exact j_iretw B hr hQ eX0_trailer_27 ho
    · refine j_iload_n B eX0_trailer_13 2 rfl ?_
      refine j_i2l B eX0_trailer_14 ?_
      refine j_lconst (v := 1) B eX0_trailer_15 rfl ?_
      refine j_ldc2 B eX0_trailer_16 q395 ?_
      refine j_callSi (As := [.long (Int32.toInt64 a2), .long (1 : Int64), .long (999 : Int64)]) B hA (met_X0_in l D _ _ _ (Int32.toInt64 a2) (1 : Int64) (999 : Int64)) NT_ok pkX0_in q224 rfl rfl hRm ⟨Nat.le_of_ble_eq_true rfl, Nat.le_of_ble_eq_true rfl⟩ rfl rfl (Nat.le_of_ble_eq_true rfl) ⟨Nat.zero_le _, Nat.zero_le _⟩ eX0_trailer_19 ho (fun v1 ho => ?_)
      refine j_if_ne B eX0_trailer_22 ho (fun _ ho => ?_) (fun _ ho => ?_)
      · refine j_const B eX0_trailer_28 ?_
        refine j_istore_n (lv' := fun x2 => [(0, .ref (ad 99)), (1, .int a1), (2, .int a2), (3, .int x2)]) B eX0_trailer_29 [1, 2, 3, 0] (by decide) (fun _ => rfl) ho (fun x2 ho => ?_)
        refine j_const B eX0_trailer_30 ?_
        refine j_istore (lv' := fun x3 => [(0, .ref (ad 99)), (1, .int a1), (2, .int a2), (3, .int x2), (4, .int x3)]) B eX0_trailer_31 [1, 2, 3, 4, 0] (by decide) (fun _ => rfl) ho (fun x3 ho => ?_)
        refine j_const B eX0_trailer_33 ?_
        refine j_istore (lv' := fun x4 => [(0, .ref (ad 99)), (1, .int a1), (2, .int a2), (3, .int x2), (4, .int x3), (5, .int x4)]) B eX0_trailer_34 [1, 2, 3, 4, 5, 0] (by decide) (fun _ => rfl) ho (fun x4 ho => ?_)
        refine jn1 (C := fun x5 => XJ p l e R s m args below meth c 0 0 Q A D vwCl (cellsX g ad) 8 w 67 [(0, .ref (ad 99)), (1, .int a1), (2, .int a2), (3, .int x2), (4, .int x5)] []) ho (fun x5 ho => ?_) (fun J6 hJ6 ho => ?_)
        · refine j_const B eX0_trailer_67 ?_
          refine j_istore (lv' := fun x7 => [(0, .ref (ad 99)), (1, .int a1), (2, .int a2), (3, .int x2), (4, .int x5), (5, .int x7)]) B eX0_trailer_68 [1, 2, 3, 4, 5, 0] (by decide) (fun _ => rfl) ho (fun x7 ho => ?_)
          refine jn2 (C := fun x8 w9 => XJ p l e R s m args below meth c 0 0 Q A D vwCl (cellsX g ad) 8 w9 224 [(0, .ref (ad 99)), (1, .int a1), (3, .int x8)] []) ho (fun x8 w9 ho => ?_) (fun J10 hJ10 ho => ?_)
          · refine j_iload_n B eX0_trailer_224 2 rfl ?_
            refine j_const B eX0_trailer_225 ?_
            refine j_icmp_ne B eX0_trailer_226 ho (fun _ ho => ?_) (fun _ ho => ?_)
            · refine j_aload_n B eX0_trailer_232 0 rfl ?_
              refine j_iload_n B eX0_trailer_233 1 rfl ?_
              refine pfX_41 B eX0_trailer_234 ho (fun w11 ho => ?_)
              refine j_iload_n B eX0_trailer_237 2 rfl ?_
              exact j_iretw B hr hQ eX0_trailer_238 ho
            · refine j_const B eX0_trailer_229 ?_
              exact j_iretw B hr hQ eX0_trailer_231 ho
          · unfold sX_trailer_L70 at ho
            refine fx3 (C := fun x12 x13 w14 => XJ p l e R s m args below meth c 0 0 Q A D vwCl (cellsX g ad) 8 w14 70 [(0, .ref (ad 99)), (1, .int a1), (2, .int a2), (3, .int x12), (4, .int x5), (5, .int x13)] []) (fun self15 hself15 x12 x13 w14 ho => ?_) FU _ _ _ ho
            refine j_iload B eX0_trailer_70 5 rfl ?_
            refine j_iload B eX0_trailer_72 4 rfl ?_
            refine j_icmp_ge B eX0_trailer_74 ho (fun _ ho => ?_) (fun _ ho => ?_)
            · refine j_lsub (lv' := [(0, .ref (ad 99)), (1, .int a1), (3, .int x12)]) [0, 1, 3] rfl ?_
              exact hJ10 _ _ ho
            · refine j_const B eX0_trailer_77 ?_
              refine j_istore (lv' := fun x16 => [(0, .ref (ad 99)), (1, .int a1), (2, .int a2), (3, .int x12), (4, .int x5), (5, .int x13), (6, .int x16)]) B eX0_trailer_78 [1, 2, 3, 4, 5, 6, 0] (by decide) (fun _ => rfl) ho (fun x16 ho => ?_)
              refine jn1 (C := fun w17 => XJ p l e R s m args below meth c 0 0 Q A D vwCl (cellsX g ad) 8 w17 100 [(0, .ref (ad 99)), (1, .int a1), (2, .int a2), (3, .int x12), (4, .int x5), (5, .int x13)] []) ho (fun w17 ho => ?_) (fun J18 hJ18 ho => ?_)
              · refine j_iload B eX0_trailer_100 5 rfl ?_
                refine j_istore (lv' := fun x19 => [(0, .ref (ad 99)), (1, .int a1), (2, .int a2), (3, .int x12), (4, .int x5), (5, .int x13), (6, .int x19)]) B eX0_trailer_102 [1, 2, 3, 4, 5, 6, 0] (by decide) (fun _ => rfl) ho (fun x19 ho => ?_)
                refine j_aload_n B eX0_trailer_104 0 rfl ?_
                refine gfX_3 B eX0_trailer_105 ?_
                refine j_const B eX0_trailer_108 ?_
                refine j_isub B eX0_trailer_109 ?_
                refine j_istore (lv' := fun x20 => [(0, .ref (ad 99)), (1, .int a1), (2, .int a2), (3, .int x12), (4, .int x5), (5, .int x13), (6, .int x19), (7, .int x20)]) B eX0_trailer_110 [1, 2, 3, 4, 5, 6, 7, 0] (by decide) (fun _ => rfl) ho (fun x20 ho => ?_)
                refine jn1 (C := fun w21 => XJ p l e R s m args below meth c 0 0 Q A D vwCl (cellsX g ad) 8 w21 163 [(0, .ref (ad 99)), (1, .int a1), (2, .int a2), (3, .int x12), (4, .int x5), (5, .int x13)] []) ho (fun w21 ho => ?_) (fun J22 hJ22 ho => ?_)
                · refine j_aload_n B eX0_trailer_163 0 rfl ?_
                  refine gfX_39 B eX0_trailer_164 ?_
                  refine j_const B eX0_trailer_167 ?_
                  refine ldX_39 B eX0_trailer_168 ho (fun v23 ho => ?_)
                  refine j_aload_n B eX0_trailer_169 0 rfl ?_
                  refine gfX_39 B eX0_trailer_170 ?_
                  refine j_const B eX0_trailer_173 ?_
                  refine ldX_39 B eX0_trailer_174 ho (fun v24 ho => ?_)
                  refine j_aload_n B eX0_trailer_175 0 rfl ?_
                  refine gfX_39 B eX0_trailer_176 ?_
                  refine j_const B eX0_trailer_179 ?_
                  refine ldX_39 B eX0_trailer_180 ho (fun v25 ho => ?_)
                  refine j_callSi (As := [.int v24, .int v25]) B hA (met_J0_max l D _ _ _ v24 v25) NT_ok pkJ0_max q743 rfl rfl hRm ⟨Nat.le_of_ble_eq_true rfl, Nat.le_of_ble_eq_true rfl⟩ rfl rfl (Nat.le_of_ble_eq_true rfl) ⟨Nat.zero_le _, Nat.zero_le _⟩ eX0_trailer_181 ho (fun v26 ho => ?_)
                  refine j_callSi (As := [.int v23, .int v26]) B hA (met_J0_max l D _ _ _ v23 v26) NT_ok pkJ0_max q743 rfl rfl hRm ⟨Nat.le_of_ble_eq_true rfl, Nat.le_of_ble_eq_true rfl⟩ rfl rfl (Nat.le_of_ble_eq_true rfl) ⟨Nat.zero_le _, Nat.zero_le _⟩ eX0_trailer_184 ho (fun v27 ho => ?_)
                  refine j_istore (lv' := fun x28 => [(0, .ref (ad 99)), (1, .int a1), (2, .int a2), (3, .int x12), (4, .int x5), (5, .int x13), (7, .int x28)]) B eX0_trailer_187 [1, 2, 3, 4, 5, 6, 0] (by decide) (fun _ => rfl) ho (fun x28 ho => ?_)
                  refine j_iload B eX0_trailer_189 6 rfl ?_
                  refine j_iload_n B eX0_trailer_191 2 rfl ?_
                  refine j_icmp_gt B eX0_trailer_192 ho (fun _ ho => ?_) (fun _ ho => ?_)
                  · refine j_iinc (d := 1) (lv' := fun x29 => [(0, .ref (ad 99)), (1, .int a1), (2, .int a2), (3, .int x12), (4, .int x5), (5, .int x29)]) B eX0_trailer_218 5 rfl (by decide) [1, 2, 3, 4, 5, 0] (by decide) (fun _ => rfl) ho (fun x29 ho => ?_)
                    refine j_goto B eX0_trailer_221 ?_
                    exact hself15 _ _ _ ho
                  · refine j_iload_n B eX0_trailer_195 3 rfl ?_
                    refine j_const B eX0_trailer_196 ?_
                    refine jn0 (C := XJ p l e R s m args below meth c 0 0 Q A D vwCl (cellsX g ad) 8 w21 209 [(0, .ref (ad 99)), (1, .int a1), (2, .int a2), (4, .int x5), (5, .int x13), (7, .int x28)] []) ho (fun ho => ?_) (fun J30 hJ30 ho => ?_)
                    · refine j_iload B eX0_trailer_209 5 rfl ?_
                      refine j_istore_n (lv' := fun x31 => [(0, .ref (ad 99)), (1, .int a1), (2, .int a2), (3, .int x31), (4, .int x5), (5, .int x13)]) B eX0_trailer_211 [1, 2, 3, 0, 4, 5] (by decide) (fun _ => rfl) ho (fun x31 ho => ?_)
                      refine j_aload_n B eX0_trailer_212 0 rfl ?_
                      refine j_iload B eX0_trailer_213 5 rfl ?_
                      refine pfX_40 B eX0_trailer_215 ho (fun w32 ho => ?_)
                      refine j_iinc (d := 1) (lv' := fun x33 => [(0, .ref (ad 99)), (1, .int a1), (2, .int a2), (3, .int x31), (4, .int x5), (5, .int x33)]) B eX0_trailer_218 5 rfl (by decide) [1, 2, 3, 4, 5, 0] (by decide) (fun _ => rfl) ho (fun x33 ho => ?_)
                      refine j_goto B eX0_trailer_221 ?_
                      exact hself15 _ _ _ ho
                    · refine j_icmp_eq B eX0_trailer_197 ho (fun _ ho => ?_) (fun _ ho => ?_)
                      · refine j_lsub (lv' := [(0, .ref (ad 99)), (1, .int a1), (2, .int a2), (4, .int x5), (5, .int x13), (7, .int x28)]) [0, 1, 2, 4, 5, 6] rfl ?_
                        exact hJ30 ho
                      · refine j_iload B eX0_trailer_200 6 rfl ?_
                        refine j_iload_n B eX0_trailer_202 3 rfl ?_
                        refine j_icmp_lt B eX0_trailer_203 ho (fun _ ho => ?_) (fun _ ho => ?_)
                        · refine j_lsub (lv' := [(0, .ref (ad 99)), (1, .int a1), (2, .int a2), (4, .int x5), (5, .int x13), (7, .int x28)]) [0, 1, 2, 4, 5, 6] rfl ?_
                          exact hJ30 ho
                        · refine j_goto B eX0_trailer_206 ?_
                          refine j_iinc (d := 1) (lv' := fun x34 => [(0, .ref (ad 99)), (1, .int a1), (2, .int a2), (3, .int x12), (4, .int x5), (5, .int x34)]) B eX0_trailer_218 5 rfl (by decide) [1, 2, 3, 4, 5, 0] (by decide) (fun _ => rfl) ho (fun x34 ho => ?_)
                          refine j_goto B eX0_trailer_221 ?_
                          exact hself15 _ _ _ ho
                · unfold sX_trailer_L112 at ho
                  refine fx3 (C := fun x35 x36 w37 => XJ p l e R s m args below meth c 0 0 Q A D vwCl (cellsX g ad) 8 w37 112 [(0, .ref (ad 99)), (1, .int a1), (2, .int a2), (3, .int x12), (4, .int x5), (5, .int x13), (6, .int x35), (7, .int x36)] []) (fun self38 hself38 x35 x36 w37 ho => ?_) FU _ _ _ ho
                  refine j_iload B eX0_trailer_112 7 rfl ?_
                  refine j_if_lt B eX0_trailer_114 ho (fun _ ho => ?_) (fun _ ho => ?_)
                  · refine j_lsub (lv' := [(0, .ref (ad 99)), (1, .int a1), (2, .int a2), (3, .int x12), (4, .int x5), (5, .int x13)]) [0, 1, 2, 3, 4, 5] rfl ?_
                    exact hJ22 _ ho
                  · refine j_iload_n B eX0_trailer_117 1 rfl ?_
                    refine j_iload B eX0_trailer_118 7 rfl ?_
                    refine j_ishr B eX0_trailer_120 ?_
                    refine j_const B eX0_trailer_121 ?_
                    refine j_iand B eX0_trailer_122 ?_
                    refine j_if_ne B eX0_trailer_123 ho (fun _ ho => ?_) (fun _ ho => ?_)
                    · refine j_aload_n B eX0_trailer_129 0 rfl ?_
                      refine gfX_39 B eX0_trailer_130 ?_
                      refine j_iload B eX0_trailer_133 6 rfl ?_
                      refine j_const B eX0_trailer_135 ?_
                      refine j_irm B eX0_trailer_136 (by decide) ?_
                      refine j_dup2 B eX0_trailer_137 rfl rfl ?_
                      refine ldX_39 B eX0_trailer_138 ho (fun v39 ho => ?_)
                      refine j_aload_n B eX0_trailer_139 0 rfl ?_
                      refine gfX_1 B eX0_trailer_140 ?_
                      refine j_iload B eX0_trailer_143 7 rfl ?_
                      refine alX_1 B eX0_trailer_145 ho (fun k40 ho => ?_)
                      refine gfBN (j := 3) B hX (by decide) nq304 rfl eX0_trailer_146 ho (fun v41 ho => ?_)
                      refine j_iadd B eX0_trailer_149 ?_
                      refine stX_39 B eX0_trailer_150 ho (fun w42 ho => ?_)
                      refine j_iload B eX0_trailer_151 6 rfl ?_
                      refine j_const B eX0_trailer_153 ?_
                      refine j_idiv B eX0_trailer_154 (by decide) ?_
                      refine j_istore (lv' := fun x43 => [(0, .ref (ad 99)), (1, .int a1), (2, .int a2), (3, .int x12), (4, .int x5), (5, .int x13), (6, .int x43), (7, .int x36)]) B eX0_trailer_155 [1, 2, 3, 4, 5, 6, 0, 7] (by decide) (fun _ => rfl) ho (fun x43 ho => ?_)
                      refine j_iinc (d := -1) (lv' := fun x44 => [(0, .ref (ad 99)), (1, .int a1), (2, .int a2), (3, .int x12), (4, .int x5), (5, .int x13), (6, .int x43), (7, .int x44)]) B eX0_trailer_157 7 rfl (by decide) [1, 2, 3, 4, 5, 6, 7, 0] (by decide) (fun _ => rfl) ho (fun x44 ho => ?_)
                      refine j_goto B eX0_trailer_160 ?_
                      exact hself38 _ _ _ ho
                    · refine j_goto B eX0_trailer_126 ?_
                      refine j_iinc (d := -1) (lv' := fun x45 => [(0, .ref (ad 99)), (1, .int a1), (2, .int a2), (3, .int x12), (4, .int x5), (5, .int x13), (6, .int x35), (7, .int x45)]) B eX0_trailer_157 7 rfl (by decide) [1, 2, 3, 4, 5, 6, 7, 0] (by decide) (fun _ => rfl) ho (fun x45 ho => ?_)
                      refine j_goto B eX0_trailer_160 ?_
                      exact hself38 _ _ _ ho
              · unfold sX_trailer_L80 at ho
                refine fx2 (C := fun x46 w47 => XJ p l e R s m args below meth c 0 0 Q A D vwCl (cellsX g ad) 8 w47 80 [(0, .ref (ad 99)), (1, .int a1), (2, .int a2), (3, .int x12), (4, .int x5), (5, .int x13), (6, .int x46)] []) (fun self48 hself48 x46 w47 ho => ?_) FU _ _ ho
                refine j_iload B eX0_trailer_80 6 rfl ?_
                refine j_const B eX0_trailer_82 ?_
                refine j_icmp_ge B eX0_trailer_83 ho (fun _ ho => ?_) (fun _ ho => ?_)
                · refine j_lsub (lv' := [(0, .ref (ad 99)), (1, .int a1), (2, .int a2), (3, .int x12), (4, .int x5), (5, .int x13)]) [0, 1, 2, 3, 4, 5] rfl ?_
                  exact hJ18 _ ho
                · refine j_aload_n B eX0_trailer_86 0 rfl ?_
                  refine gfX_39 B eX0_trailer_87 ?_
                  refine j_iload B eX0_trailer_90 6 rfl ?_
                  refine j_const B eX0_trailer_92 ?_
                  refine stX_39 B eX0_trailer_93 ho (fun w49 ho => ?_)
                  refine j_iinc (d := 1) (lv' := fun x50 => [(0, .ref (ad 99)), (1, .int a1), (2, .int a2), (3, .int x12), (4, .int x5), (5, .int x13), (6, .int x50)]) B eX0_trailer_94 6 rfl (by decide) [1, 2, 3, 4, 5, 6, 0] (by decide) (fun _ => rfl) ho (fun x50 ho => ?_)
                  refine j_goto B eX0_trailer_97 ?_
                  exact hself48 _ _ ho
        · unfold sX_trailer_L36 at ho
          refine fx2 (C := fun x51 x52 => XJ p l e R s m args below meth c 0 0 Q A D vwCl (cellsX g ad) 8 w 36 [(0, .ref (ad 99)), (1, .int a1), (2, .int a2), (3, .int x2), (4, .int x51), (5, .int x52)] []) (fun self53 hself53 x51 x52 ho => ?_) FU _ _ ho
          refine j_iload B eX0_trailer_36 5 rfl ?_
          refine j_aload_n B eX0_trailer_38 0 rfl ?_
          refine gfX_3 B eX0_trailer_39 ?_
          refine j_icmp_ge B eX0_trailer_42 ho (fun _ ho => ?_) (fun _ ho => ?_)
          · refine j_lsub (lv' := [(0, .ref (ad 99)), (1, .int a1), (2, .int a2), (3, .int x2), (4, .int x51)]) [0, 1, 2, 3, 4] rfl ?_
            exact hJ6 _ ho
          · refine j_iload_n B eX0_trailer_45 1 rfl ?_
            refine j_iload B eX0_trailer_46 5 rfl ?_
            refine j_ishr B eX0_trailer_48 ?_
            refine j_const B eX0_trailer_49 ?_
            refine j_iand B eX0_trailer_50 ?_
            refine j_const B eX0_trailer_51 ?_
            refine j_icmp_ne B eX0_trailer_52 ho (fun _ ho => ?_) (fun _ ho => ?_)
            · refine j_iinc (d := 1) (lv' := fun x54 => [(0, .ref (ad 99)), (1, .int a1), (2, .int a2), (3, .int x2), (4, .int x51), (5, .int x54)]) B eX0_trailer_61 5 rfl (by decide) [1, 2, 3, 4, 5, 0] (by decide) (fun _ => rfl) ho (fun x54 ho => ?_)
              refine j_goto B eX0_trailer_64 ?_
              exact hself53 _ _ ho
            · refine j_iload B eX0_trailer_55 4 rfl ?_
              refine j_const B eX0_trailer_57 ?_
              refine j_imul B eX0_trailer_58 ?_
              refine j_istore (lv' := fun x55 => [(0, .ref (ad 99)), (1, .int a1), (2, .int a2), (3, .int x2), (4, .int x55), (5, .int x52)]) B eX0_trailer_59 [1, 2, 3, 4, 0, 5] (by decide) (fun _ => rfl) ho (fun x55 ho => ?_)
              refine j_iinc (d := 1) (lv' := fun x56 => [(0, .ref (ad 99)), (1, .int a1), (2, .int a2), (3, .int x2), (4, .int x55), (5, .int x56)]) B eX0_trailer_61 5 rfl (by decide) [1, 2, 3, 4, 5, 0] (by decide) (fun _ => rfl) ho (fun x56 ho => ?_)
              refine j_goto B eX0_trailer_64 ?_
              exact hself53 _ _ ho
      · refine j_const B eX0_trailer_25 ?_
        exact j_iretw B hr hQ eX0_trailer_27 ho
def sX_rack_L29 (w : Wd) (a1 : Int32) : Int32 → Int32 → Option (Int32) :=
  fx (fun _ _ => none) (fun self6 x4 x5 =>
    if x5 ≤ a1 then (some (irm x4 (3 : Int32))) else (if (((w.2.1 90 41) >>> (x5 &&& 31)) &&& (1 : Int32)) = (1 : Int32) then (nm (x4 / (3 : Int32)) fun x8 => nm (x5 + (-1 : Int32)) fun x9 => self6 x8 x9) else (nm (x5 + (-1 : Int32)) fun x7 => self6 x4 x7))) FU
def sX_rack (w : Wd) (a1 : Int32) : Option (Int32) :=
  bd (sX_isBoat w a1) fun v1 => if v1 = 0 then (some (-1 : Int32)) else (if (((w.2.1 90 41) >>> (a1 &&& 31)) &&& (1 : Int32)) = 0 then (some (-1 : Int32)) else (nm (w.2.1 90 40) fun x2 => nm (7 : Int32) fun x3 => sX_rack_L29 w a1 x2 x3))
abbrev rmX0_rack : Room := { frames := 2, cells := 0, slots := 0, locals := 46 }
theorem pkX0_rack : PkV yX0_rack RX0 cX0_rack 4 (some .int) 1 := ⟨q747, q748, q57, q749, by decide +kernel⟩
set_option maxHeartbeats 4000000 in
theorem met_X0_rack (l : Launch) (D : va_G) (g : Nat → ClassId) (ad sd : Nat → Nat) (w : Wd) (a1 : Int32) (sz : Nat) (r : Int32) (ho : sX_rack w a1 = some r) : Met l yX0_rack (ws_ yX0_rack cX0_rack 4 (some .int)) rmX0_rack (va_Pc [.ref (ad 99), .int a1] (MPre D vwCl (tysG g) (cellsX g ad w) (NXX sd (cellsX g ad w)) sz)) (QcI D vwCl (tysG g) (cellsX g ad w) r (va_A (cellsX g ad w) sz)) 0 0 (va_A (cellsX g ad w) sz) := by
  refine met_XJ (cw := cellsX g ad) (w := w) (cc := cX0_rack) (lv := [(0, .ref (ad 99)), (1, .int a1)]) pnX0 _ (Nat.le_of_ble_eq_true rfl) rfl ?_
  intro p e s m args below meth c R Q A B hN hr hsz hA hmm hRm hQ hAe
  have hX : NXA sd A s := by rw [hAe, ← hsz]; exact hN
  unfold sX_rack at ho
  refine j_aload_n B eX0_rack_0 0 rfl ?_
  refine j_iload_n B eX0_rack_1 1 rfl ?_
  refine j_callVi (As := [.int a1]) B hA (met_X0_isBoat l D g ad sd w a1) (NXX_ok hX) pkX0_isBoat q337 0 rfl rfl rfl rfl hRm ⟨Nat.le_of_ble_eq_true rfl, Nat.le_of_ble_eq_true rfl⟩ rfl rfl (Nat.le_of_ble_eq_true rfl) ⟨Nat.zero_le _, Nat.zero_le _⟩ eX0_rack_2 ho (fun v1 ho => ?_)
  refine j_if_eq B eX0_rack_5 ho (fun _ ho => ?_) (fun _ ho => ?_)
  · refine j_const B eX0_rack_19 ?_
    exact j_iret B hr hQ eX0_rack_20 ho
  · refine j_aload_n B eX0_rack_8 0 rfl ?_
    refine gfX_41 B eX0_rack_9 ?_
    refine j_iload_n B eX0_rack_12 1 rfl ?_
    refine j_ishr B eX0_rack_13 ?_
    refine j_const B eX0_rack_14 ?_
    refine j_iand B eX0_rack_15 ?_
    refine j_if_ne B eX0_rack_16 ho (fun _ ho => ?_) (fun _ ho => ?_)
    · refine j_aload_n B eX0_rack_21 0 rfl ?_
      refine gfX_40 B eX0_rack_22 ?_
      refine j_istore_n (lv' := fun x2 => [(0, .ref (ad 99)), (1, .int a1), (2, .int x2)]) B eX0_rack_25 [1, 2, 0] (by decide) (fun _ => rfl) ho (fun x2 ho => ?_)
      refine j_const B eX0_rack_26 ?_
      refine j_istore_n (lv' := fun x3 => [(0, .ref (ad 99)), (1, .int a1), (2, .int x2), (3, .int x3)]) B eX0_rack_28 [1, 2, 3, 0] (by decide) (fun _ => rfl) ho (fun x3 ho => ?_)
      unfold sX_rack_L29 at ho
      refine fx2 (C := fun x4 x5 => XJ p l e R s m args below meth c 0 0 Q A D vwCl (cellsX g ad) 4 w 29 [(0, .ref (ad 99)), (1, .int a1), (2, .int x4), (3, .int x5)] []) (fun self6 hself6 x4 x5 ho => ?_) FU _ _ ho
      refine j_iload_n B eX0_rack_29 3 rfl ?_
      refine j_iload_n B eX0_rack_30 1 rfl ?_
      refine j_icmp_le B eX0_rack_31 ho (fun _ ho => ?_) (fun _ ho => ?_)
      · refine j_iload_n B eX0_rack_56 2 rfl ?_
        refine j_const B eX0_rack_57 ?_
        refine j_irm B eX0_rack_58 (by decide) ?_
        exact j_iret B hr hQ eX0_rack_59 ho
      · refine j_aload_n B eX0_rack_34 0 rfl ?_
        refine gfX_41 B eX0_rack_35 ?_
        refine j_iload_n B eX0_rack_38 3 rfl ?_
        refine j_ishr B eX0_rack_39 ?_
        refine j_const B eX0_rack_40 ?_
        refine j_iand B eX0_rack_41 ?_
        refine j_const B eX0_rack_42 ?_
        refine j_icmp_ne B eX0_rack_43 ho (fun _ ho => ?_) (fun _ ho => ?_)
        · refine j_iinc (d := -1) (lv' := fun x7 => [(0, .ref (ad 99)), (1, .int a1), (2, .int x4), (3, .int x7)]) B eX0_rack_50 3 rfl (by decide) [1, 2, 3, 0] (by decide) (fun _ => rfl) ho (fun x7 ho => ?_)
          refine j_goto B eX0_rack_53 ?_
          exact hself6 _ _ ho
        · refine j_iload_n B eX0_rack_46 2 rfl ?_
          refine j_const B eX0_rack_47 ?_
          refine j_idiv B eX0_rack_48 (by decide) ?_
          refine j_istore_n (lv' := fun x8 => [(0, .ref (ad 99)), (1, .int a1), (2, .int x8), (3, .int x5)]) B eX0_rack_49 [1, 2, 0, 3] (by decide) (fun _ => rfl) ho (fun x8 ho => ?_)
          refine j_iinc (d := -1) (lv' := fun x9 => [(0, .ref (ad 99)), (1, .int a1), (2, .int x8), (3, .int x9)]) B eX0_rack_50 3 rfl (by decide) [1, 2, 3, 0] (by decide) (fun _ => rfl) ho (fun x9 ho => ?_)
          refine j_goto B eX0_rack_53 ?_
          exact hself6 _ _ ho
    · refine j_const B eX0_rack_19 ?_
      exact j_iret B hr hQ eX0_rack_20 ho
def sX_count (w : Wd) (a1 : Int32) : Option (Int32) :=
  if a1 = (0 : Int32) then (some (w.2.1 90 2)) else (if a1 = (1 : Int32) then (some (w.2.1 90 3)) else (if a1 = (2 : Int32) then (some (w.2.1 90 10)) else (if a1 = (3 : Int32) then (some (w.2.1 90 20)) else (if a1 = (4 : Int32) then (some (w.2.1 90 32)) else (if a1 = (5 : Int32) then (some (w.2.1 90 33)) else (if a1 = (6 : Int32) then (some (w.2.1 90 37)) else (if a1 = (7 : Int32) then (some (w.2.1 90 4)) else (if a1 = (8 : Int32) then (some (w.2.1 90 22)) else (some (-1 : Int32))))))))))
abbrev rmX0_count : Room := { frames := 0, cells := 0, slots := 0, locals := 0 }
theorem pkX0_count : PkV yX0_count RX0 cX0_count 2 (some .int) 1 := ⟨q751, q752, q57, q753, by decide +kernel⟩
set_option maxHeartbeats 4000000 in
theorem met_X0_count (l : Launch) (D : va_G) (g : Nat → ClassId) (ad sd : Nat → Nat) (w : Wd) (a1 : Int32) (sz : Nat) (r : Int32) (ho : sX_count w a1 = some r) : Met l yX0_count (ws_ yX0_count cX0_count 2 (some .int)) rmX0_count (va_Pc [.ref (ad 99), .int a1] (MPre D vwCl (tysG g) (cellsX g ad w) (NXX sd (cellsX g ad w)) sz)) (QcI D vwCl (tysG g) (cellsX g ad w) r (va_A (cellsX g ad w) sz)) 0 0 (va_A (cellsX g ad w) sz) := by
  refine met_XJ (cw := cellsX g ad) (w := w) (cc := cX0_count) (lv := [(0, .ref (ad 99)), (1, .int a1)]) pnX0 _ (Nat.le_of_ble_eq_true rfl) rfl ?_
  intro p e s m args below meth c R Q A B hN hr hsz hA hmm hRm hQ hAe
  have hX : NXA sd A s := by rw [hAe, ← hsz]; exact hN
  unfold sX_count at ho
  refine j_iload_n B eX0_count_0 1 rfl ?_
  rcases sw_e ho with ⟨hs0, ho⟩ | ⟨hs0, ho⟩
  · refine j_tswIn (tgt := 52) B eX0_count_1 0 hs0 (by decide) (by decide) rfl (by decide) ?_
    refine j_aload_n B eX0_count_52 0 rfl ?_
    refine gfX_2 B eX0_count_53 ?_
    exact j_iret B hr hQ eX0_count_56 ho
  · rcases sw_e ho with ⟨hs1, ho⟩ | ⟨hs1, ho⟩
    · refine j_tswIn (tgt := 57) B eX0_count_1 1 hs1 (by decide) (by decide) rfl (by decide) ?_
      refine j_aload_n B eX0_count_57 0 rfl ?_
      refine gfX_3 B eX0_count_58 ?_
      exact j_iret B hr hQ eX0_count_61 ho
    · rcases sw_e ho with ⟨hs2, ho⟩ | ⟨hs2, ho⟩
      · refine j_tswIn (tgt := 62) B eX0_count_1 2 hs2 (by decide) (by decide) rfl (by decide) ?_
        refine j_aload_n B eX0_count_62 0 rfl ?_
        refine gfX_10 B eX0_count_63 ?_
        exact j_iret B hr hQ eX0_count_66 ho
      · rcases sw_e ho with ⟨hs3, ho⟩ | ⟨hs3, ho⟩
        · refine j_tswIn (tgt := 67) B eX0_count_1 3 hs3 (by decide) (by decide) rfl (by decide) ?_
          refine j_aload_n B eX0_count_67 0 rfl ?_
          refine gfX_20 B eX0_count_68 ?_
          exact j_iret B hr hQ eX0_count_71 ho
        · rcases sw_e ho with ⟨hs4, ho⟩ | ⟨hs4, ho⟩
          · refine j_tswIn (tgt := 72) B eX0_count_1 4 hs4 (by decide) (by decide) rfl (by decide) ?_
            refine j_aload_n B eX0_count_72 0 rfl ?_
            refine gfX_32 B eX0_count_73 ?_
            exact j_iret B hr hQ eX0_count_76 ho
          · rcases sw_e ho with ⟨hs5, ho⟩ | ⟨hs5, ho⟩
            · refine j_tswIn (tgt := 77) B eX0_count_1 5 hs5 (by decide) (by decide) rfl (by decide) ?_
              refine j_aload_n B eX0_count_77 0 rfl ?_
              refine gfX_33 B eX0_count_78 ?_
              exact j_iret B hr hQ eX0_count_81 ho
            · rcases sw_e ho with ⟨hs6, ho⟩ | ⟨hs6, ho⟩
              · refine j_tswIn (tgt := 82) B eX0_count_1 6 hs6 (by decide) (by decide) rfl (by decide) ?_
                refine j_aload_n B eX0_count_82 0 rfl ?_
                refine gfX_37 B eX0_count_83 ?_
                exact j_iret B hr hQ eX0_count_86 ho
              · rcases sw_e ho with ⟨hs7, ho⟩ | ⟨hs7, ho⟩
                · refine j_tswIn (tgt := 87) B eX0_count_1 7 hs7 (by decide) (by decide) rfl (by decide) ?_
                  refine j_aload_n B eX0_count_87 0 rfl ?_
                  refine gfX_4 B eX0_count_88 ?_
                  exact j_iret B hr hQ eX0_count_91 ho
                · rcases sw_e ho with ⟨hs8, ho⟩ | ⟨hs8, ho⟩
                  · refine j_tswIn (tgt := 92) B eX0_count_1 8 hs8 (by decide) (by decide) rfl (by decide) ?_
                    refine j_aload_n B eX0_count_92 0 rfl ?_
                    refine gfX_22 B eX0_count_93 ?_
                    exact j_iret B hr hQ eX0_count_96 ho
                  · refine j_tswOut (tgt := 97) B eX0_count_1 (by have a0 := lv_neT hs0 (a := 0) (by decide); have a1 := lv_neT hs1 (a := 1) (by decide); have a2 := lv_neT hs2 (a := 2) (by decide); have a3 := lv_neT hs3 (a := 3) (by decide); have a4 := lv_neT hs4 (a := 4) (by decide); have a5 := lv_neT hs5 (a := 5) (by decide); have a6 := lv_neT hs6 (a := 6) (by decide); have a7 := lv_neT hs7 (a := 7) (by decide); have a8 := lv_neT hs8 (a := 8) (by decide); omega) (by decide) ?_
                    refine j_const B eX0_count_97 ?_
                    exact j_iret B hr hQ eX0_count_98 ho
