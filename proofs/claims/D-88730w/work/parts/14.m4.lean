set_option maxRecDepth 100000
theorem eX1_ruled_0 : D1 cX1_ruled 0 (.aload_n 0) 1 := ⟨by decide +kernel, rfl⟩
theorem eX1_ruled_1 : D1 cX1_ruled 1 (.iload_n 1) 2 := ⟨by decide +kernel, rfl⟩
theorem eX1_ruled_2 : D3 cX1_ruled 2 (.invokevirtual 142) 5 := ⟨by decide +kernel, rfl⟩
theorem eX1_ruled_5 : DJ cX1_ruled 5 (.ifCond .ne) 10 8 := ⟨5, by decide +kernel, by decide, rfl⟩
theorem eX1_ruled_8 : DC cX1_ruled 8 (-1) 9 := Or.inl ⟨-1, ⟨by decide +kernel, rfl⟩, by decide⟩
theorem eX1_ruled_9 : D1 cX1_ruled 9 (.ireturn) 10 := ⟨by decide +kernel, rfl⟩
theorem eX1_ruled_10 : D1 cX1_ruled 10 (.iload_n 2) 11 := ⟨by decide +kernel, rfl⟩
theorem eX1_ruled_11 : D1 cX1_ruled 11 (.i2l) 12 := ⟨by decide +kernel, rfl⟩
theorem eX1_ruled_12 : D1 cX1_ruled 12 (.lconst 0) 13 := ⟨by decide +kernel, rfl⟩
theorem eX1_ruled_13 : D3 cX1_ruled 13 (.ldc2_w 232) 16 := ⟨by decide +kernel, rfl⟩
theorem eX1_ruled_16 : D3 cX1_ruled 16 (.invokestatic 155) 19 := ⟨by decide +kernel, rfl⟩
theorem eX1_ruled_19 : DJ cX1_ruled 19 (.ifCond .eq) 31 22 := ⟨12, by decide +kernel, by decide, rfl⟩
theorem eX1_ruled_22 : D1 cX1_ruled 22 (.aload_n 0) 23 := ⟨by decide +kernel, rfl⟩
theorem eX1_ruled_23 : D1 cX1_ruled 23 (.iload_n 1) 24 := ⟨by decide +kernel, rfl⟩
theorem eX1_ruled_24 : D1 cX1_ruled 24 (.iload_n 2) 25 := ⟨by decide +kernel, rfl⟩
theorem eX1_ruled_25 : D3 cX1_ruled 25 (.invokevirtual 302) 28 := ⟨by decide +kernel, rfl⟩
theorem eX1_ruled_28 : DJ cX1_ruled 28 .goto 33 31 := ⟨5, by decide +kernel, by decide, rfl⟩
theorem eX1_ruled_31 : DC cX1_ruled 31 (-2) 33 := Or.inr (Or.inl ⟨-2, ⟨by decide +kernel, rfl⟩, by decide⟩)
theorem eX1_ruled_33 : D1 cX1_ruled 33 (.ireturn) 34 := ⟨by decide +kernel, rfl⟩
theorem eX1_ashore_0 : D1 cX1_ashore 0 (.aload_n 0) 1 := ⟨by decide +kernel, rfl⟩
theorem eX1_ashore_1 : D3 cX1_ashore 1 (.getfield 26) 4 := ⟨by decide +kernel, rfl⟩
theorem eX1_ashore_4 : D1 cX1_ashore 4 (.iload_n 1) 5 := ⟨by decide +kernel, rfl⟩
theorem eX1_ashore_5 : D1 cX1_ashore 5 (.baload) 6 := ⟨by decide +kernel, rfl⟩
theorem eX1_ashore_6 : DJ cX1_ashore 6 (.ifCond .eq) 11 9 := ⟨5, by decide +kernel, by decide, rfl⟩
theorem eX1_ashore_9 : DC cX1_ashore 9 (1) 10 := Or.inl ⟨1, ⟨by decide +kernel, rfl⟩, by decide⟩
theorem eX1_ashore_10 : D1 cX1_ashore 10 (.ireturn) 11 := ⟨by decide +kernel, rfl⟩
theorem eX1_ashore_11 : DC cX1_ashore 11 (0) 12 := Or.inl ⟨0, ⟨by decide +kernel, rfl⟩, by decide⟩
theorem eX1_ashore_12 : D1 cX1_ashore 12 (.istore_n 3) 13 := ⟨by decide +kernel, rfl⟩
theorem eX1_ashore_13 : DC cX1_ashore 13 (0) 14 := Or.inl ⟨0, ⟨by decide +kernel, rfl⟩, by decide⟩
theorem eX1_ashore_14 : D2 cX1_ashore 14 (.istore 4) 16 := ⟨by decide +kernel, rfl⟩
theorem eX1_ashore_16 : D2 cX1_ashore 16 (.iload 4) 18 := ⟨by decide +kernel, rfl⟩
theorem eX1_ashore_18 : D1 cX1_ashore 18 (.aload_n 0) 19 := ⟨by decide +kernel, rfl⟩
theorem eX1_ashore_19 : D1 cX1_ashore 19 (.iload_n 1) 20 := ⟨by decide +kernel, rfl⟩
theorem eX1_ashore_20 : D3 cX1_ashore 20 (.invokevirtual 146) 23 := ⟨by decide +kernel, rfl⟩
theorem eX1_ashore_23 : DJ cX1_ashore 23 (.if_icmp .ge) 58 26 := ⟨35, by decide +kernel, by decide, rfl⟩
theorem eX1_ashore_26 : D1 cX1_ashore 26 (.aload_n 0) 27 := ⟨by decide +kernel, rfl⟩
theorem eX1_ashore_27 : D1 cX1_ashore 27 (.iload_n 1) 28 := ⟨by decide +kernel, rfl⟩
theorem eX1_ashore_28 : D2 cX1_ashore 28 (.iload 4) 30 := ⟨by decide +kernel, rfl⟩
theorem eX1_ashore_30 : D3 cX1_ashore 30 (.invokevirtual 172) 33 := ⟨by decide +kernel, rfl⟩
theorem eX1_ashore_33 : D2 cX1_ashore 33 (.istore 5) 35 := ⟨by decide +kernel, rfl⟩
theorem eX1_ashore_35 : D2 cX1_ashore 35 (.iload 5) 37 := ⟨by decide +kernel, rfl⟩
theorem eX1_ashore_37 : DJ cX1_ashore 37 (.ifCond .ge) 42 40 := ⟨5, by decide +kernel, by decide, rfl⟩
theorem eX1_ashore_40 : DC cX1_ashore 40 (2) 41 := Or.inl ⟨2, ⟨by decide +kernel, rfl⟩, by decide⟩
theorem eX1_ashore_41 : D1 cX1_ashore 41 (.ireturn) 42 := ⟨by decide +kernel, rfl⟩
theorem eX1_ashore_42 : D1 cX1_ashore 42 (.iload_n 3) 43 := ⟨by decide +kernel, rfl⟩
theorem eX1_ashore_43 : D1 cX1_ashore 43 (.aload_n 0) 44 := ⟨by decide +kernel, rfl⟩
theorem eX1_ashore_44 : D3 cX1_ashore 44 (.getfield 13) 47 := ⟨by decide +kernel, rfl⟩
theorem eX1_ashore_47 : D2 cX1_ashore 47 (.iload 5) 49 := ⟨by decide +kernel, rfl⟩
theorem eX1_ashore_49 : D1 cX1_ashore 49 (.iaload) 50 := ⟨by decide +kernel, rfl⟩
theorem eX1_ashore_50 : D1 cX1_ashore 50 (.iadd) 51 := ⟨by decide +kernel, rfl⟩
theorem eX1_ashore_51 : D1 cX1_ashore 51 (.istore_n 3) 52 := ⟨by decide +kernel, rfl⟩
theorem eX1_ashore_52 : D3 cX1_ashore 52 (.iinc 4 1) 55 := ⟨by decide +kernel, rfl⟩
theorem eX1_ashore_55 : DJ cX1_ashore 55 .goto 16 58 := ⟨-39, by decide +kernel, by decide, rfl⟩
theorem eX1_ashore_58 : D1 cX1_ashore 58 (.aload_n 0) 59 := ⟨by decide +kernel, rfl⟩
theorem eX1_ashore_59 : D1 cX1_ashore 59 (.iload_n 1) 60 := ⟨by decide +kernel, rfl⟩
theorem eX1_ashore_60 : D3 cX1_ashore 60 (.invokevirtual 150) 63 := ⟨by decide +kernel, rfl⟩
theorem eX1_ashore_63 : DJ cX1_ashore 63 (.ifCond .eq) 78 66 := ⟨15, by decide +kernel, by decide, rfl⟩
theorem eX1_ashore_66 : D1 cX1_ashore 66 (.aload_n 0) 67 := ⟨by decide +kernel, rfl⟩
theorem eX1_ashore_67 : D1 cX1_ashore 67 (.iload_n 1) 68 := ⟨by decide +kernel, rfl⟩
theorem eX1_ashore_68 : DC cX1_ashore 68 (8) 70 := Or.inr (Or.inl ⟨8, ⟨by decide +kernel, rfl⟩, by decide⟩)
theorem eX1_ashore_70 : D3 cX1_ashore 70 (.invokevirtual 172) 73 := ⟨by decide +kernel, rfl⟩
theorem eX1_ashore_73 : DJ cX1_ashore 73 (.ifCond .ge) 78 76 := ⟨5, by decide +kernel, by decide, rfl⟩
theorem eX1_ashore_76 : DC cX1_ashore 76 (2) 77 := Or.inl ⟨2, ⟨by decide +kernel, rfl⟩, by decide⟩
theorem eX1_ashore_77 : D1 cX1_ashore 77 (.ireturn) 78 := ⟨by decide +kernel, rfl⟩
theorem eX1_ashore_78 : D1 cX1_ashore 78 (.iload_n 3) 79 := ⟨by decide +kernel, rfl⟩
theorem eX1_ashore_79 : D1 cX1_ashore 79 (.aload_n 0) 80 := ⟨by decide +kernel, rfl⟩
theorem eX1_ashore_80 : D1 cX1_ashore 80 (.iload_n 1) 81 := ⟨by decide +kernel, rfl⟩
theorem eX1_ashore_81 : D3 cX1_ashore 81 (.invokevirtual 146) 84 := ⟨by decide +kernel, rfl⟩
theorem eX1_ashore_84 : D1 cX1_ashore 84 (.idiv) 85 := ⟨by decide +kernel, rfl⟩
theorem eX1_ashore_85 : D2 cX1_ashore 85 (.istore 4) 87 := ⟨by decide +kernel, rfl⟩
theorem eX1_ashore_87 : D2 cX1_ashore 87 (.iload 4) 89 := ⟨by decide +kernel, rfl⟩
theorem eX1_ashore_89 : D1 cX1_ashore 89 (.aload_n 0) 90 := ⟨by decide +kernel, rfl⟩
theorem eX1_ashore_90 : D3 cX1_ashore 90 (.getfield 32) 93 := ⟨by decide +kernel, rfl⟩
theorem eX1_ashore_93 : D1 cX1_ashore 93 (.iload_n 1) 94 := ⟨by decide +kernel, rfl⟩
theorem eX1_ashore_94 : D1 cX1_ashore 94 (.iaload) 95 := ⟨by decide +kernel, rfl⟩
theorem eX1_ashore_95 : DJ cX1_ashore 95 (.if_icmp .lt) 109 98 := ⟨14, by decide +kernel, by decide, rfl⟩
theorem eX1_ashore_98 : D2 cX1_ashore 98 (.iload 4) 100 := ⟨by decide +kernel, rfl⟩
theorem eX1_ashore_100 : D1 cX1_ashore 100 (.aload_n 0) 101 := ⟨by decide +kernel, rfl⟩
theorem eX1_ashore_101 : D3 cX1_ashore 101 (.getfield 35) 104 := ⟨by decide +kernel, rfl⟩
theorem eX1_ashore_104 : D1 cX1_ashore 104 (.iload_n 1) 105 := ⟨by decide +kernel, rfl⟩
theorem eX1_ashore_105 : D1 cX1_ashore 105 (.iaload) 106 := ⟨by decide +kernel, rfl⟩
theorem eX1_ashore_106 : DJ cX1_ashore 106 (.if_icmp .le) 111 109 := ⟨5, by decide +kernel, by decide, rfl⟩
theorem eX1_ashore_109 : DC cX1_ashore 109 (3) 110 := Or.inl ⟨3, ⟨by decide +kernel, rfl⟩, by decide⟩
theorem eX1_ashore_110 : D1 cX1_ashore 110 (.ireturn) 111 := ⟨by decide +kernel, rfl⟩
theorem eX1_ashore_111 : DC cX1_ashore 111 (0) 112 := Or.inl ⟨0, ⟨by decide +kernel, rfl⟩, by decide⟩
theorem eX1_ashore_112 : D2 cX1_ashore 112 (.istore 5) 114 := ⟨by decide +kernel, rfl⟩
theorem eX1_ashore_114 : D2 cX1_ashore 114 (.iload 5) 116 := ⟨by decide +kernel, rfl⟩
theorem eX1_ashore_116 : D1 cX1_ashore 116 (.aload_n 0) 117 := ⟨by decide +kernel, rfl⟩
theorem eX1_ashore_117 : D3 cX1_ashore 117 (.getfield 136) 120 := ⟨by decide +kernel, rfl⟩
theorem eX1_ashore_120 : DJ cX1_ashore 120 (.if_icmp .ge) 152 123 := ⟨32, by decide +kernel, by decide, rfl⟩
theorem eX1_ashore_123 : D1 cX1_ashore 123 (.aload_n 0) 124 := ⟨by decide +kernel, rfl⟩
theorem eX1_ashore_124 : D3 cX1_ashore 124 (.getfield 16) 127 := ⟨by decide +kernel, rfl⟩
theorem eX1_ashore_127 : D2 cX1_ashore 127 (.iload 5) 129 := ⟨by decide +kernel, rfl⟩
theorem eX1_ashore_129 : D1 cX1_ashore 129 (.iaload) 130 := ⟨by decide +kernel, rfl⟩
theorem eX1_ashore_130 : D1 cX1_ashore 130 (.iload_n 1) 131 := ⟨by decide +kernel, rfl⟩
theorem eX1_ashore_131 : DJ cX1_ashore 131 (.if_icmp .ne) 146 134 := ⟨15, by decide +kernel, by decide, rfl⟩
theorem eX1_ashore_134 : D1 cX1_ashore 134 (.aload_n 0) 135 := ⟨by decide +kernel, rfl⟩
theorem eX1_ashore_135 : D2 cX1_ashore 135 (.iload 5) 137 := ⟨by decide +kernel, rfl⟩
theorem eX1_ashore_137 : D1 cX1_ashore 137 (.iload_n 2) 138 := ⟨by decide +kernel, rfl⟩
theorem eX1_ashore_138 : D3 cX1_ashore 138 (.invokevirtual 221) 141 := ⟨by decide +kernel, rfl⟩
theorem eX1_ashore_141 : DJ cX1_ashore 141 (.ifCond .ne) 146 144 := ⟨5, by decide +kernel, by decide, rfl⟩
theorem eX1_ashore_144 : DC cX1_ashore 144 (4) 145 := Or.inl ⟨4, ⟨by decide +kernel, rfl⟩, by decide⟩
theorem eX1_ashore_145 : D1 cX1_ashore 145 (.ireturn) 146 := ⟨by decide +kernel, rfl⟩
theorem eX1_ashore_146 : D3 cX1_ashore 146 (.iinc 5 1) 149 := ⟨by decide +kernel, rfl⟩
theorem eX1_ashore_149 : DJ cX1_ashore 149 .goto 114 152 := ⟨-35, by decide +kernel, by decide, rfl⟩
theorem eX1_ashore_152 : D1 cX1_ashore 152 (.aload_n 0) 153 := ⟨by decide +kernel, rfl⟩
theorem eX1_ashore_153 : D1 cX1_ashore 153 (.iload_n 1) 154 := ⟨by decide +kernel, rfl⟩
theorem eX1_ashore_154 : D1 cX1_ashore 154 (.iload_n 2) 155 := ⟨by decide +kernel, rfl⟩
theorem eX1_ashore_155 : D3 cX1_ashore 155 (.invokevirtual 302) 158 := ⟨by decide +kernel, rfl⟩
theorem eX1_ashore_158 : D2 cX1_ashore 158 (.istore 5) 160 := ⟨by decide +kernel, rfl⟩
theorem eX1_ashore_160 : D2 cX1_ashore 160 (.iload 5) 162 := ⟨by decide +kernel, rfl⟩
theorem eX1_ashore_162 : DJ cX1_ashore 162 (.ifCond .lt) 179 165 := ⟨17, by decide +kernel, by decide, rfl⟩
theorem eX1_ashore_165 : D1 cX1_ashore 165 (.aload_n 0) 166 := ⟨by decide +kernel, rfl⟩
theorem eX1_ashore_166 : D3 cX1_ashore 166 (.getfield 84) 169 := ⟨by decide +kernel, rfl⟩
theorem eX1_ashore_169 : D2 cX1_ashore 169 (.iload 5) 171 := ⟨by decide +kernel, rfl⟩
theorem eX1_ashore_171 : D1 cX1_ashore 171 (.baload) 172 := ⟨by decide +kernel, rfl⟩
theorem eX1_ashore_172 : DJ cX1_ashore 172 (.ifCond .eq) 179 175 := ⟨7, by decide +kernel, by decide, rfl⟩
theorem eX1_ashore_175 : DC cX1_ashore 175 (5) 176 := Or.inl ⟨5, ⟨by decide +kernel, rfl⟩, by decide⟩
theorem eX1_ashore_176 : DJ cX1_ashore 176 .goto 180 179 := ⟨4, by decide +kernel, by decide, rfl⟩
theorem eX1_ashore_179 : DC cX1_ashore 179 (0) 180 := Or.inl ⟨0, ⟨by decide +kernel, rfl⟩, by decide⟩
theorem eX1_ashore_180 : D1 cX1_ashore 180 (.ireturn) 181 := ⟨by decide +kernel, rfl⟩
theorem eX1_may_0 : D1 cX1_may 0 (.aload_n 0) 1 := ⟨by decide +kernel, rfl⟩
theorem eX1_may_1 : D1 cX1_may 1 (.iload_n 1) 2 := ⟨by decide +kernel, rfl⟩
theorem eX1_may_2 : D3 cX1_may 2 (.invokevirtual 142) 5 := ⟨by decide +kernel, rfl⟩
theorem eX1_may_5 : DJ cX1_may 5 (.ifCond .ne) 10 8 := ⟨5, by decide +kernel, by decide, rfl⟩
theorem eX1_may_8 : DC cX1_may 8 (-1) 9 := Or.inl ⟨-1, ⟨by decide +kernel, rfl⟩, by decide⟩
theorem eX1_may_9 : D1 cX1_may 9 (.ireturn) 10 := ⟨by decide +kernel, rfl⟩
theorem eX1_may_10 : D1 cX1_may 10 (.iload_n 2) 11 := ⟨by decide +kernel, rfl⟩
theorem eX1_may_11 : D1 cX1_may 11 (.i2l) 12 := ⟨by decide +kernel, rfl⟩
theorem eX1_may_12 : D1 cX1_may 12 (.lconst 0) 13 := ⟨by decide +kernel, rfl⟩
theorem eX1_may_13 : D3 cX1_may 13 (.ldc2_w 232) 16 := ⟨by decide +kernel, rfl⟩
theorem eX1_may_16 : D3 cX1_may 16 (.invokestatic 155) 19 := ⟨by decide +kernel, rfl⟩
theorem eX1_may_19 : DJ cX1_may 19 (.ifCond .eq) 31 22 := ⟨12, by decide +kernel, by decide, rfl⟩
theorem eX1_may_22 : D1 cX1_may 22 (.aload_n 0) 23 := ⟨by decide +kernel, rfl⟩
theorem eX1_may_23 : D1 cX1_may 23 (.iload_n 1) 24 := ⟨by decide +kernel, rfl⟩
theorem eX1_may_24 : D1 cX1_may 24 (.iload_n 2) 25 := ⟨by decide +kernel, rfl⟩
theorem eX1_may_25 : D3 cX1_may 25 (.invokevirtual 305) 28 := ⟨by decide +kernel, rfl⟩
theorem eX1_may_28 : DJ cX1_may 28 .goto 33 31 := ⟨5, by decide +kernel, by decide, rfl⟩
theorem eX1_may_31 : DC cX1_may 31 (-2) 33 := Or.inr (Or.inl ⟨-2, ⟨by decide +kernel, rfl⟩, by decide⟩)
theorem eX1_may_33 : D1 cX1_may 33 (.ireturn) 34 := ⟨by decide +kernel, rfl⟩
theorem eX1_day_0 : D1 cX1_day 0 (.iload_n 1) 1 := ⟨by decide +kernel, rfl⟩
theorem eX1_day_1 : D1 cX1_day 1 (.i2l) 2 := ⟨by decide +kernel, rfl⟩
theorem eX1_day_2 : D1 cX1_day 2 (.aload_n 0) 3 := ⟨by decide +kernel, rfl⟩
theorem eX1_day_3 : D3 cX1_day 3 (.getfield 293) 6 := ⟨by decide +kernel, rfl⟩
theorem eX1_day_6 : D1 cX1_day 6 (.i2l) 7 := ⟨by decide +kernel, rfl⟩
theorem eX1_day_7 : D3 cX1_day 7 (.ldc2_w 178) 10 := ⟨by decide +kernel, rfl⟩
theorem eX1_day_10 : D3 cX1_day 10 (.invokestatic 155) 13 := ⟨by decide +kernel, rfl⟩
theorem eX1_day_13 : DJ cX1_day 13 (.ifCond .ne) 19 16 := ⟨6, by decide +kernel, by decide, rfl⟩
theorem eX1_day_16 : DC cX1_day 16 (-2) 18 := Or.inr (Or.inl ⟨-2, ⟨by decide +kernel, rfl⟩, by decide⟩)
theorem eX1_day_18 : D1 cX1_day 18 (.ireturn) 19 := ⟨by decide +kernel, rfl⟩
theorem eX1_day_19 : D1 cX1_day 19 (.aload_n 0) 20 := ⟨by decide +kernel, rfl⟩
theorem eX1_day_20 : D3 cX1_day 20 (.getfield 293) 23 := ⟨by decide +kernel, rfl⟩
theorem eX1_day_23 : D1 cX1_day 23 (.istore_n 2) 24 := ⟨by decide +kernel, rfl⟩
theorem eX1_day_24 : D1 cX1_day 24 (.aload_n 0) 25 := ⟨by decide +kernel, rfl⟩
theorem eX1_day_25 : D1 cX1_day 25 (.iload_n 1) 26 := ⟨by decide +kernel, rfl⟩
theorem eX1_day_26 : D3 cX1_day 26 (.putfield 293) 29 := ⟨by decide +kernel, rfl⟩
theorem eX1_day_29 : D1 cX1_day 29 (.iload_n 2) 30 := ⟨by decide +kernel, rfl⟩
theorem eX1_day_30 : D1 cX1_day 30 (.ireturn) 31 := ⟨by decide +kernel, rfl⟩
theorem eX1_whoIn_0 : DC cX1_whoIn 0 (0) 1 := Or.inl ⟨0, ⟨by decide +kernel, rfl⟩, by decide⟩
theorem eX1_whoIn_1 : D1 cX1_whoIn 1 (.istore_n 2) 2 := ⟨by decide +kernel, rfl⟩
theorem eX1_whoIn_2 : DC cX1_whoIn 2 (0) 3 := Or.inl ⟨0, ⟨by decide +kernel, rfl⟩, by decide⟩
theorem eX1_whoIn_3 : D1 cX1_whoIn 3 (.istore_n 3) 4 := ⟨by decide +kernel, rfl⟩
theorem eX1_whoIn_4 : D1 cX1_whoIn 4 (.iload_n 3) 5 := ⟨by decide +kernel, rfl⟩
theorem eX1_whoIn_5 : D1 cX1_whoIn 5 (.aload_n 0) 6 := ⟨by decide +kernel, rfl⟩
theorem eX1_whoIn_6 : D3 cX1_whoIn 6 (.getfield 136) 9 := ⟨by decide +kernel, rfl⟩
theorem eX1_whoIn_9 : DJ cX1_whoIn 9 (.if_icmp .ge) 38 12 := ⟨29, by decide +kernel, by decide, rfl⟩
theorem eX1_whoIn_12 : D1 cX1_whoIn 12 (.iload_n 2) 13 := ⟨by decide +kernel, rfl⟩
theorem eX1_whoIn_13 : D1 cX1_whoIn 13 (.aload_n 0) 14 := ⟨by decide +kernel, rfl⟩
theorem eX1_whoIn_14 : D3 cX1_whoIn 14 (.getfield 16) 17 := ⟨by decide +kernel, rfl⟩
theorem eX1_whoIn_17 : D1 cX1_whoIn 17 (.iload_n 3) 18 := ⟨by decide +kernel, rfl⟩
theorem eX1_whoIn_18 : D1 cX1_whoIn 18 (.iaload) 19 := ⟨by decide +kernel, rfl⟩
theorem eX1_whoIn_19 : D1 cX1_whoIn 19 (.iload_n 1) 20 := ⟨by decide +kernel, rfl⟩
theorem eX1_whoIn_20 : DJ cX1_whoIn 20 (.if_icmp .ne) 29 23 := ⟨9, by decide +kernel, by decide, rfl⟩
theorem eX1_whoIn_23 : DC cX1_whoIn 23 (1) 24 := Or.inl ⟨1, ⟨by decide +kernel, rfl⟩, by decide⟩
theorem eX1_whoIn_24 : D1 cX1_whoIn 24 (.iload_n 3) 25 := ⟨by decide +kernel, rfl⟩
theorem eX1_whoIn_25 : D1 cX1_whoIn 25 (.ishl) 26 := ⟨by decide +kernel, rfl⟩
theorem eX1_whoIn_26 : DJ cX1_whoIn 26 .goto 30 29 := ⟨4, by decide +kernel, by decide, rfl⟩
theorem eX1_whoIn_29 : DC cX1_whoIn 29 (0) 30 := Or.inl ⟨0, ⟨by decide +kernel, rfl⟩, by decide⟩
theorem eX1_whoIn_30 : D1 cX1_whoIn 30 (.ior) 31 := ⟨by decide +kernel, rfl⟩
theorem eX1_whoIn_31 : D1 cX1_whoIn 31 (.istore_n 2) 32 := ⟨by decide +kernel, rfl⟩
theorem eX1_whoIn_32 : D3 cX1_whoIn 32 (.iinc 3 1) 35 := ⟨by decide +kernel, rfl⟩
theorem eX1_whoIn_35 : DJ cX1_whoIn 35 .goto 4 38 := ⟨-31, by decide +kernel, by decide, rfl⟩
theorem eX1_whoIn_38 : D1 cX1_whoIn 38 (.iload_n 2) 39 := ⟨by decide +kernel, rfl⟩
theorem eX1_whoIn_39 : D1 cX1_whoIn 39 (.ireturn) 40 := ⟨by decide +kernel, rfl⟩
theorem eX1_out_0 : D1 cX1_out 0 (.aload_n 0) 1 := ⟨by decide +kernel, rfl⟩
theorem eX1_out_1 : D1 cX1_out 1 (.iload_n 1) 2 := ⟨by decide +kernel, rfl⟩
theorem eX1_out_2 : D3 cX1_out 2 (.invokevirtual 142) 5 := ⟨by decide +kernel, rfl⟩
theorem eX1_out_5 : DJ cX1_out 5 (.ifCond .ne) 10 8 := ⟨5, by decide +kernel, by decide, rfl⟩
theorem eX1_out_8 : DC cX1_out 8 (-1) 9 := Or.inl ⟨-1, ⟨by decide +kernel, rfl⟩, by decide⟩
theorem eX1_out_9 : D1 cX1_out 9 (.ireturn) 10 := ⟨by decide +kernel, rfl⟩
theorem eX1_out_10 : D1 cX1_out 10 (.iload_n 2) 11 := ⟨by decide +kernel, rfl⟩
theorem eX1_out_11 : D1 cX1_out 11 (.i2l) 12 := ⟨by decide +kernel, rfl⟩
theorem eX1_out_12 : D1 cX1_out 12 (.lconst 0) 13 := ⟨by decide +kernel, rfl⟩
theorem eX1_out_13 : D3 cX1_out 13 (.ldc2_w 232) 16 := ⟨by decide +kernel, rfl⟩
theorem eX1_out_16 : D3 cX1_out 16 (.invokestatic 155) 19 := ⟨by decide +kernel, rfl⟩
theorem eX1_out_19 : DJ cX1_out 19 (.ifCond .ne) 25 22 := ⟨6, by decide +kernel, by decide, rfl⟩
theorem eX1_out_22 : DC cX1_out 22 (-2) 24 := Or.inr (Or.inl ⟨-2, ⟨by decide +kernel, rfl⟩, by decide⟩)
theorem eX1_out_24 : D1 cX1_out 24 (.ireturn) 25 := ⟨by decide +kernel, rfl⟩
theorem eX1_out_25 : D1 cX1_out 25 (.aload_n 0) 26 := ⟨by decide +kernel, rfl⟩
theorem eX1_out_26 : D1 cX1_out 26 (.iload_n 1) 27 := ⟨by decide +kernel, rfl⟩
theorem eX1_out_27 : D1 cX1_out 27 (.iload_n 2) 28 := ⟨by decide +kernel, rfl⟩
theorem eX1_out_28 : D3 cX1_out 28 (.invokevirtual 305) 31 := ⟨by decide +kernel, rfl⟩
theorem eX1_out_31 : DJ cX1_out 31 (.ifCond .eq) 37 34 := ⟨6, by decide +kernel, by decide, rfl⟩
theorem eX1_out_34 : DC cX1_out 34 (-3) 36 := Or.inr (Or.inl ⟨-3, ⟨by decide +kernel, rfl⟩, by decide⟩)
theorem eX1_out_36 : D1 cX1_out 36 (.ireturn) 37 := ⟨by decide +kernel, rfl⟩
theorem eX1_out_37 : D1 cX1_out 37 (.aload_n 0) 38 := ⟨by decide +kernel, rfl⟩
theorem eX1_out_38 : D3 cX1_out 38 (.getfield 308) 41 := ⟨by decide +kernel, rfl⟩
theorem eX1_out_41 : DC cX1_out 41 (30) 43 := Or.inr (Or.inl ⟨30, ⟨by decide +kernel, rfl⟩, by decide⟩)
theorem eX1_out_43 : DJ cX1_out 43 (.if_icmp .ne) 49 46 := ⟨6, by decide +kernel, by decide, rfl⟩
theorem eX1_out_46 : DC cX1_out 46 (-4) 48 := Or.inr (Or.inl ⟨-4, ⟨by decide +kernel, rfl⟩, by decide⟩)
theorem eX1_out_48 : D1 cX1_out 48 (.ireturn) 49 := ⟨by decide +kernel, rfl⟩
theorem eX1_out_49 : D1 cX1_out 49 (.aload_n 0) 50 := ⟨by decide +kernel, rfl⟩
theorem eX1_out_50 : D3 cX1_out 50 (.getfield 96) 53 := ⟨by decide +kernel, rfl⟩
theorem eX1_out_53 : D1 cX1_out 53 (.aload_n 0) 54 := ⟨by decide +kernel, rfl⟩
theorem eX1_out_54 : D3 cX1_out 54 (.getfield 308) 57 := ⟨by decide +kernel, rfl⟩
theorem eX1_out_57 : D1 cX1_out 57 (.iload_n 1) 58 := ⟨by decide +kernel, rfl⟩
theorem eX1_out_58 : D1 cX1_out 58 (.iastore) 59 := ⟨by decide +kernel, rfl⟩
theorem eX1_out_59 : D1 cX1_out 59 (.aload_n 0) 60 := ⟨by decide +kernel, rfl⟩
theorem eX1_out_60 : D3 cX1_out 60 (.getfield 99) 63 := ⟨by decide +kernel, rfl⟩
theorem eX1_out_63 : D1 cX1_out 63 (.aload_n 0) 64 := ⟨by decide +kernel, rfl⟩
theorem eX1_out_64 : D3 cX1_out 64 (.getfield 308) 67 := ⟨by decide +kernel, rfl⟩
theorem eX1_out_67 : D1 cX1_out 67 (.aload_n 0) 68 := ⟨by decide +kernel, rfl⟩
theorem eX1_out_68 : D3 cX1_out 68 (.getfield 293) 71 := ⟨by decide +kernel, rfl⟩
theorem eX1_out_71 : D1 cX1_out 71 (.iastore) 72 := ⟨by decide +kernel, rfl⟩
theorem eX1_out_72 : D1 cX1_out 72 (.aload_n 0) 73 := ⟨by decide +kernel, rfl⟩
theorem eX1_out_73 : D3 cX1_out 73 (.getfield 102) 76 := ⟨by decide +kernel, rfl⟩
theorem eX1_out_76 : D1 cX1_out 76 (.aload_n 0) 77 := ⟨by decide +kernel, rfl⟩
theorem eX1_out_77 : D3 cX1_out 77 (.getfield 308) 80 := ⟨by decide +kernel, rfl⟩
theorem eX1_out_80 : D1 cX1_out 80 (.iload_n 2) 81 := ⟨by decide +kernel, rfl⟩
theorem eX1_out_81 : D1 cX1_out 81 (.iastore) 82 := ⟨by decide +kernel, rfl⟩
theorem eX1_out_82 : D1 cX1_out 82 (.aload_n 0) 83 := ⟨by decide +kernel, rfl⟩
theorem eX1_out_83 : D3 cX1_out 83 (.getfield 105) 86 := ⟨by decide +kernel, rfl⟩
theorem eX1_out_86 : D1 cX1_out 86 (.aload_n 0) 87 := ⟨by decide +kernel, rfl⟩
theorem eX1_out_87 : D3 cX1_out 87 (.getfield 308) 90 := ⟨by decide +kernel, rfl⟩
theorem eX1_out_90 : D1 cX1_out 90 (.aload_n 0) 91 := ⟨by decide +kernel, rfl⟩
theorem eX1_out_91 : D1 cX1_out 91 (.iload_n 1) 92 := ⟨by decide +kernel, rfl⟩
theorem eX1_out_92 : D3 cX1_out 92 (.invokevirtual 311) 95 := ⟨by decide +kernel, rfl⟩
theorem eX1_out_95 : D1 cX1_out 95 (.iastore) 96 := ⟨by decide +kernel, rfl⟩
theorem eX1_out_96 : D1 cX1_out 96 (.aload_n 0) 97 := ⟨by decide +kernel, rfl⟩
theorem eX1_out_97 : D1 cX1_out 97 (.dup) 98 := ⟨by decide +kernel, rfl⟩
theorem eX1_out_98 : D3 cX1_out 98 (.getfield 308) 101 := ⟨by decide +kernel, rfl⟩
theorem eX1_out_101 : DC cX1_out 101 (1) 102 := Or.inl ⟨1, ⟨by decide +kernel, rfl⟩, by decide⟩
theorem eX1_out_102 : D1 cX1_out 102 (.iadd) 103 := ⟨by decide +kernel, rfl⟩
theorem eX1_out_103 : D3 cX1_out 103 (.putfield 308) 106 := ⟨by decide +kernel, rfl⟩
theorem eX1_out_106 : D1 cX1_out 106 (.aload_n 0) 107 := ⟨by decide +kernel, rfl⟩
theorem eX1_out_107 : D3 cX1_out 107 (.getfield 308) 110 := ⟨by decide +kernel, rfl⟩
theorem eX1_out_110 : DC cX1_out 110 (1) 111 := Or.inl ⟨1, ⟨by decide +kernel, rfl⟩, by decide⟩
theorem eX1_out_111 : D1 cX1_out 111 (.isub) 112 := ⟨by decide +kernel, rfl⟩
theorem eX1_out_112 : D1 cX1_out 112 (.ireturn) 113 := ⟨by decide +kernel, rfl⟩
theorem eX1_look_0 : D1 cX1_look 0 (.aload_n 0) 1 := ⟨by decide +kernel, rfl⟩
theorem eX1_look_1 : D1 cX1_look 1 (.iload_n 1) 2 := ⟨by decide +kernel, rfl⟩
theorem eX1_look_2 : D3 cX1_look 2 (.invokevirtual 142) 5 := ⟨by decide +kernel, rfl⟩
theorem eX1_look_5 : DJ cX1_look 5 (.ifCond .ne) 10 8 := ⟨5, by decide +kernel, by decide, rfl⟩
theorem eX1_look_8 : DC cX1_look 8 (-1) 9 := Or.inl ⟨-1, ⟨by decide +kernel, rfl⟩, by decide⟩
theorem eX1_look_9 : D1 cX1_look 9 (.ireturn) 10 := ⟨by decide +kernel, rfl⟩
theorem eX1_look_10 : D1 cX1_look 10 (.iload_n 2) 11 := ⟨by decide +kernel, rfl⟩
theorem eX1_look_11 : D1 cX1_look 11 (.i2l) 12 := ⟨by decide +kernel, rfl⟩
theorem eX1_look_12 : D1 cX1_look 12 (.lconst 0) 13 := ⟨by decide +kernel, rfl⟩
theorem eX1_look_13 : D1 cX1_look 13 (.lconst 1) 14 := ⟨by decide +kernel, rfl⟩
theorem eX1_look_14 : D3 cX1_look 14 (.invokestatic 155) 17 := ⟨by decide +kernel, rfl⟩
theorem eX1_look_17 : DJ cX1_look 17 (.ifCond .ne) 23 20 := ⟨6, by decide +kernel, by decide, rfl⟩
theorem eX1_look_20 : DC cX1_look 20 (-2) 22 := Or.inr (Or.inl ⟨-2, ⟨by decide +kernel, rfl⟩, by decide⟩)
theorem eX1_look_22 : D1 cX1_look 22 (.ireturn) 23 := ⟨by decide +kernel, rfl⟩
theorem eX1_look_23 : D1 cX1_look 23 (.aload_n 0) 24 := ⟨by decide +kernel, rfl⟩
theorem eX1_look_24 : D3 cX1_look 24 (.getfield 314) 27 := ⟨by decide +kernel, rfl⟩
theorem eX1_look_27 : DC cX1_look 27 (60) 29 := Or.inr (Or.inl ⟨60, ⟨by decide +kernel, rfl⟩, by decide⟩)
theorem eX1_look_29 : DJ cX1_look 29 (.if_icmp .ne) 35 32 := ⟨6, by decide +kernel, by decide, rfl⟩
theorem eX1_look_32 : DC cX1_look 32 (-4) 34 := Or.inr (Or.inl ⟨-4, ⟨by decide +kernel, rfl⟩, by decide⟩)
theorem eX1_look_34 : D1 cX1_look 34 (.ireturn) 35 := ⟨by decide +kernel, rfl⟩
theorem eX1_look_35 : D1 cX1_look 35 (.aload_n 0) 36 := ⟨by decide +kernel, rfl⟩
theorem eX1_look_36 : D3 cX1_look 36 (.getfield 108) 39 := ⟨by decide +kernel, rfl⟩
theorem eX1_look_39 : D1 cX1_look 39 (.aload_n 0) 40 := ⟨by decide +kernel, rfl⟩
theorem eX1_look_40 : D3 cX1_look 40 (.getfield 314) 43 := ⟨by decide +kernel, rfl⟩
theorem eX1_look_43 : D1 cX1_look 43 (.iload_n 1) 44 := ⟨by decide +kernel, rfl⟩
theorem eX1_look_44 : D1 cX1_look 44 (.iastore) 45 := ⟨by decide +kernel, rfl⟩
theorem eX1_look_45 : D1 cX1_look 45 (.aload_n 0) 46 := ⟨by decide +kernel, rfl⟩
theorem eX1_look_46 : D3 cX1_look 46 (.getfield 111) 49 := ⟨by decide +kernel, rfl⟩
theorem eX1_look_49 : D1 cX1_look 49 (.aload_n 0) 50 := ⟨by decide +kernel, rfl⟩
theorem eX1_look_50 : D3 cX1_look 50 (.getfield 314) 53 := ⟨by decide +kernel, rfl⟩
theorem eX1_look_53 : D1 cX1_look 53 (.aload_n 0) 54 := ⟨by decide +kernel, rfl⟩
theorem eX1_look_54 : D3 cX1_look 54 (.getfield 308) 57 := ⟨by decide +kernel, rfl⟩
theorem eX1_look_57 : D1 cX1_look 57 (.iastore) 58 := ⟨by decide +kernel, rfl⟩
theorem eX1_look_58 : D1 cX1_look 58 (.aload_n 0) 59 := ⟨by decide +kernel, rfl⟩
theorem eX1_look_59 : D3 cX1_look 59 (.getfield 114) 62 := ⟨by decide +kernel, rfl⟩
theorem eX1_look_62 : D1 cX1_look 62 (.aload_n 0) 63 := ⟨by decide +kernel, rfl⟩
theorem eX1_look_63 : D3 cX1_look 63 (.getfield 314) 66 := ⟨by decide +kernel, rfl⟩
theorem eX1_look_66 : D1 cX1_look 66 (.iload_n 2) 67 := ⟨by decide +kernel, rfl⟩
theorem eX1_look_67 : DC cX1_look 67 (1) 68 := Or.inl ⟨1, ⟨by decide +kernel, rfl⟩, by decide⟩
theorem eX1_look_68 : DJ cX1_look 68 (.if_icmp .ne) 75 71 := ⟨7, by decide +kernel, by decide, rfl⟩
theorem eX1_look_71 : DC cX1_look 71 (1) 72 := Or.inl ⟨1, ⟨by decide +kernel, rfl⟩, by decide⟩
theorem eX1_look_72 : DJ cX1_look 72 .goto 76 75 := ⟨4, by decide +kernel, by decide, rfl⟩
theorem eX1_look_75 : DC cX1_look 75 (0) 76 := Or.inl ⟨0, ⟨by decide +kernel, rfl⟩, by decide⟩
theorem eX1_look_76 : D1 cX1_look 76 (.bastore) 77 := ⟨by decide +kernel, rfl⟩
theorem eX1_look_77 : D1 cX1_look 77 (.aload_n 0) 78 := ⟨by decide +kernel, rfl⟩
theorem eX1_look_78 : D3 cX1_look 78 (.getfield 26) 81 := ⟨by decide +kernel, rfl⟩
theorem eX1_look_81 : D1 cX1_look 81 (.iload_n 1) 82 := ⟨by decide +kernel, rfl⟩
theorem eX1_look_82 : D1 cX1_look 82 (.iload_n 2) 83 := ⟨by decide +kernel, rfl⟩
theorem eX1_look_83 : DJ cX1_look 83 (.ifCond .ne) 90 86 := ⟨7, by decide +kernel, by decide, rfl⟩
theorem eX1_look_86 : DC cX1_look 86 (1) 87 := Or.inl ⟨1, ⟨by decide +kernel, rfl⟩, by decide⟩
theorem eX1_look_87 : DJ cX1_look 87 .goto 91 90 := ⟨4, by decide +kernel, by decide, rfl⟩
theorem eX1_look_90 : DC cX1_look 90 (0) 91 := Or.inl ⟨0, ⟨by decide +kernel, rfl⟩, by decide⟩
theorem eX1_look_91 : D1 cX1_look 91 (.bastore) 92 := ⟨by decide +kernel, rfl⟩
theorem eX1_look_92 : D1 cX1_look 92 (.aload_n 0) 93 := ⟨by decide +kernel, rfl⟩
theorem eX1_look_93 : D1 cX1_look 93 (.dup) 94 := ⟨by decide +kernel, rfl⟩
theorem eX1_look_94 : D3 cX1_look 94 (.getfield 314) 97 := ⟨by decide +kernel, rfl⟩
theorem eX1_look_97 : DC cX1_look 97 (1) 98 := Or.inl ⟨1, ⟨by decide +kernel, rfl⟩, by decide⟩
theorem eX1_look_98 : D1 cX1_look 98 (.iadd) 99 := ⟨by decide +kernel, rfl⟩
theorem eX1_look_99 : D3 cX1_look 99 (.putfield 314) 102 := ⟨by decide +kernel, rfl⟩
theorem eX1_look_102 : D1 cX1_look 102 (.aload_n 0) 103 := ⟨by decide +kernel, rfl⟩
theorem eX1_look_103 : D3 cX1_look 103 (.getfield 314) 106 := ⟨by decide +kernel, rfl⟩
theorem eX1_look_106 : DC cX1_look 106 (1) 107 := Or.inl ⟨1, ⟨by decide +kernel, rfl⟩, by decide⟩
theorem eX1_look_107 : D1 cX1_look 107 (.isub) 108 := ⟨by decide +kernel, rfl⟩
theorem eX1_look_108 : D1 cX1_look 108 (.ireturn) 109 := ⟨by decide +kernel, rfl⟩
theorem eX1_broke_0 : D1 cX1_broke 0 (.iload_n 1) 1 := ⟨by decide +kernel, rfl⟩
theorem eX1_broke_1 : D1 cX1_broke 1 (.i2l) 2 := ⟨by decide +kernel, rfl⟩
theorem eX1_broke_2 : D1 cX1_broke 2 (.lconst 0) 3 := ⟨by decide +kernel, rfl⟩
theorem eX1_broke_3 : D1 cX1_broke 3 (.aload_n 0) 4 := ⟨by decide +kernel, rfl⟩
theorem eX1_broke_4 : D3 cX1_broke 4 (.getfield 314) 7 := ⟨by decide +kernel, rfl⟩
theorem eX1_broke_7 : DC cX1_broke 7 (1) 8 := Or.inl ⟨1, ⟨by decide +kernel, rfl⟩, by decide⟩
theorem eX1_broke_8 : D1 cX1_broke 8 (.isub) 9 := ⟨by decide +kernel, rfl⟩
theorem eX1_broke_9 : D1 cX1_broke 9 (.i2l) 10 := ⟨by decide +kernel, rfl⟩
theorem eX1_broke_10 : D3 cX1_broke 10 (.invokestatic 155) 13 := ⟨by decide +kernel, rfl⟩
theorem eX1_broke_13 : DJ cX1_broke 13 (.ifCond .eq) 28 16 := ⟨15, by decide +kernel, by decide, rfl⟩
theorem eX1_broke_16 : D1 cX1_broke 16 (.iload_n 2) 17 := ⟨by decide +kernel, rfl⟩
theorem eX1_broke_17 : D1 cX1_broke 17 (.i2l) 18 := ⟨by decide +kernel, rfl⟩
theorem eX1_broke_18 : D1 cX1_broke 18 (.lconst 0) 19 := ⟨by decide +kernel, rfl⟩
theorem eX1_broke_19 : D3 cX1_broke 19 (.ldc2_w 317) 22 := ⟨by decide +kernel, rfl⟩
theorem eX1_broke_22 : D3 cX1_broke 22 (.invokestatic 155) 25 := ⟨by decide +kernel, rfl⟩
theorem eX1_broke_25 : DJ cX1_broke 25 (.ifCond .ne) 30 28 := ⟨5, by decide +kernel, by decide, rfl⟩
theorem eX1_broke_28 : DC cX1_broke 28 (-1) 29 := Or.inl ⟨-1, ⟨by decide +kernel, rfl⟩, by decide⟩
theorem eX1_broke_29 : D1 cX1_broke 29 (.ireturn) 30 := ⟨by decide +kernel, rfl⟩
theorem eX1_broke_30 : D1 cX1_broke 30 (.aload_n 0) 31 := ⟨by decide +kernel, rfl⟩
theorem eX1_broke_31 : D3 cX1_broke 31 (.getfield 108) 34 := ⟨by decide +kernel, rfl⟩
theorem eX1_broke_34 : D1 cX1_broke 34 (.iload_n 1) 35 := ⟨by decide +kernel, rfl⟩
theorem eX1_broke_35 : D1 cX1_broke 35 (.iaload) 36 := ⟨by decide +kernel, rfl⟩
theorem eX1_broke_36 : D1 cX1_broke 36 (.istore_n 3) 37 := ⟨by decide +kernel, rfl⟩
theorem eX1_broke_37 : D1 cX1_broke 37 (.iload_n 1) 38 := ⟨by decide +kernel, rfl⟩
theorem eX1_broke_38 : DC cX1_broke 38 (1) 39 := Or.inl ⟨1, ⟨by decide +kernel, rfl⟩, by decide⟩
theorem eX1_broke_39 : D1 cX1_broke 39 (.isub) 40 := ⟨by decide +kernel, rfl⟩
theorem eX1_broke_40 : D2 cX1_broke 40 (.istore 4) 42 := ⟨by decide +kernel, rfl⟩
theorem eX1_broke_42 : D2 cX1_broke 42 (.iload 4) 44 := ⟨by decide +kernel, rfl⟩
theorem eX1_broke_44 : DJ cX1_broke 44 (.ifCond .lt) 64 47 := ⟨20, by decide +kernel, by decide, rfl⟩
theorem eX1_broke_47 : D1 cX1_broke 47 (.aload_n 0) 48 := ⟨by decide +kernel, rfl⟩
theorem eX1_broke_48 : D3 cX1_broke 48 (.getfield 108) 51 := ⟨by decide +kernel, rfl⟩
theorem eX1_broke_51 : D2 cX1_broke 51 (.iload 4) 53 := ⟨by decide +kernel, rfl⟩
theorem eX1_broke_53 : D1 cX1_broke 53 (.iaload) 54 := ⟨by decide +kernel, rfl⟩
theorem eX1_broke_54 : D1 cX1_broke 54 (.iload_n 3) 55 := ⟨by decide +kernel, rfl⟩
theorem eX1_broke_55 : DJ cX1_broke 55 (.if_icmp .eq) 64 58 := ⟨9, by decide +kernel, by decide, rfl⟩
theorem eX1_broke_58 : D3 cX1_broke 58 (.iinc 4 (-1)) 61 := ⟨by decide +kernel, rfl⟩
theorem eX1_broke_61 : DJ cX1_broke 61 .goto 42 64 := ⟨-19, by decide +kernel, by decide, rfl⟩
theorem eX1_broke_64 : D1 cX1_broke 64 (.aload_n 0) 65 := ⟨by decide +kernel, rfl⟩
theorem eX1_broke_65 : D3 cX1_broke 65 (.getfield 114) 68 := ⟨by decide +kernel, rfl⟩
theorem eX1_broke_68 : D1 cX1_broke 68 (.iload_n 1) 69 := ⟨by decide +kernel, rfl⟩
theorem eX1_broke_69 : D1 cX1_broke 69 (.baload) 70 := ⟨by decide +kernel, rfl⟩
theorem eX1_broke_70 : DJ cX1_broke 70 (.ifCond .ne) 88 73 := ⟨18, by decide +kernel, by decide, rfl⟩
theorem eX1_broke_73 : D2 cX1_broke 73 (.iload 4) 75 := ⟨by decide +kernel, rfl⟩
theorem eX1_broke_75 : DJ cX1_broke 75 (.ifCond .lt) 91 78 := ⟨16, by decide +kernel, by decide, rfl⟩
theorem eX1_broke_78 : D1 cX1_broke 78 (.aload_n 0) 79 := ⟨by decide +kernel, rfl⟩
theorem eX1_broke_79 : D3 cX1_broke 79 (.getfield 114) 82 := ⟨by decide +kernel, rfl⟩
theorem eX1_broke_82 : D2 cX1_broke 82 (.iload 4) 84 := ⟨by decide +kernel, rfl⟩
theorem eX1_broke_84 : D1 cX1_broke 84 (.baload) 85 := ⟨by decide +kernel, rfl⟩
theorem eX1_broke_85 : DJ cX1_broke 85 (.ifCond .ne) 91 88 := ⟨6, by decide +kernel, by decide, rfl⟩
theorem eX1_broke_88 : DC cX1_broke 88 (-3) 90 := Or.inr (Or.inl ⟨-3, ⟨by decide +kernel, rfl⟩, by decide⟩)
theorem eX1_broke_90 : D1 cX1_broke 90 (.ireturn) 91 := ⟨by decide +kernel, rfl⟩
theorem eX1_broke_91 : DC cX1_broke 91 (0) 92 := Or.inl ⟨0, ⟨by decide +kernel, rfl⟩, by decide⟩
theorem eX1_broke_92 : D2 cX1_broke 92 (.istore 5) 94 := ⟨by decide +kernel, rfl⟩
theorem eX1_broke_94 : DC cX1_broke 94 (-1) 95 := Or.inl ⟨-1, ⟨by decide +kernel, rfl⟩, by decide⟩
theorem eX1_broke_95 : D2 cX1_broke 95 (.istore 6) 97 := ⟨by decide +kernel, rfl⟩
theorem eX1_broke_97 : D2 cX1_broke 97 (.iload 4) 99 := ⟨by decide +kernel, rfl⟩
theorem eX1_broke_99 : DJ cX1_broke 99 (.ifCond .ge) 106 102 := ⟨7, by decide +kernel, by decide, rfl⟩
theorem eX1_broke_102 : DC cX1_broke 102 (0) 103 := Or.inl ⟨0, ⟨by decide +kernel, rfl⟩, by decide⟩
theorem eX1_broke_103 : DJ cX1_broke 103 .goto 113 106 := ⟨10, by decide +kernel, by decide, rfl⟩
theorem eX1_broke_106 : D1 cX1_broke 106 (.aload_n 0) 107 := ⟨by decide +kernel, rfl⟩
theorem eX1_broke_107 : D3 cX1_broke 107 (.getfield 111) 110 := ⟨by decide +kernel, rfl⟩
theorem eX1_broke_110 : D2 cX1_broke 110 (.iload 4) 112 := ⟨by decide +kernel, rfl⟩
theorem eX1_broke_112 : D1 cX1_broke 112 (.iaload) 113 := ⟨by decide +kernel, rfl⟩
theorem eX1_broke_113 : D2 cX1_broke 113 (.istore 7) 115 := ⟨by decide +kernel, rfl⟩
theorem eX1_broke_115 : D2 cX1_broke 115 (.iload 7) 117 := ⟨by decide +kernel, rfl⟩
theorem eX1_broke_117 : D1 cX1_broke 117 (.aload_n 0) 118 := ⟨by decide +kernel, rfl⟩
theorem eX1_broke_118 : D3 cX1_broke 118 (.getfield 111) 121 := ⟨by decide +kernel, rfl⟩
theorem eX1_broke_121 : D1 cX1_broke 121 (.iload_n 1) 122 := ⟨by decide +kernel, rfl⟩
theorem eX1_broke_122 : D1 cX1_broke 122 (.iaload) 123 := ⟨by decide +kernel, rfl⟩
theorem eX1_broke_123 : DJ cX1_broke 123 (.if_icmp .ge) 158 126 := ⟨35, by decide +kernel, by decide, rfl⟩
theorem eX1_broke_126 : D1 cX1_broke 126 (.aload_n 0) 127 := ⟨by decide +kernel, rfl⟩
theorem eX1_broke_127 : D3 cX1_broke 127 (.getfield 96) 130 := ⟨by decide +kernel, rfl⟩
theorem eX1_broke_130 : D2 cX1_broke 130 (.iload 7) 132 := ⟨by decide +kernel, rfl⟩
theorem eX1_broke_132 : D1 cX1_broke 132 (.iaload) 133 := ⟨by decide +kernel, rfl⟩
theorem eX1_broke_133 : D1 cX1_broke 133 (.iload_n 3) 134 := ⟨by decide +kernel, rfl⟩
theorem eX1_broke_134 : DJ cX1_broke 134 (.if_icmp .eq) 140 137 := ⟨6, by decide +kernel, by decide, rfl⟩
theorem eX1_broke_137 : DJ cX1_broke 137 .goto 152 140 := ⟨15, by decide +kernel, by decide, rfl⟩
theorem eX1_broke_140 : D2 cX1_broke 140 (.iload 5) 142 := ⟨by decide +kernel, rfl⟩
theorem eX1_broke_142 : DJ cX1_broke 142 (.ifCond .ne) 149 145 := ⟨7, by decide +kernel, by decide, rfl⟩
theorem eX1_broke_145 : D2 cX1_broke 145 (.iload 7) 147 := ⟨by decide +kernel, rfl⟩
theorem eX1_broke_147 : D2 cX1_broke 147 (.istore 6) 149 := ⟨by decide +kernel, rfl⟩
theorem eX1_broke_149 : D3 cX1_broke 149 (.iinc 5 1) 152 := ⟨by decide +kernel, rfl⟩
theorem eX1_broke_152 : D3 cX1_broke 152 (.iinc 7 1) 155 := ⟨by decide +kernel, rfl⟩
theorem eX1_broke_155 : DJ cX1_broke 155 .goto 115 158 := ⟨-40, by decide +kernel, by decide, rfl⟩
theorem eX1_broke_158 : D1 cX1_broke 158 (.iload_n 2) 159 := ⟨by decide +kernel, rfl⟩
theorem eX1_broke_159 : DJ cX1_broke 159 (.ifCond .ne) 167 162 := ⟨8, by decide +kernel, by decide, rfl⟩
theorem eX1_broke_162 : D2 cX1_broke 162 (.iload 5) 164 := ⟨by decide +kernel, rfl⟩
theorem eX1_broke_164 : DJ cX1_broke 164 .goto 193 167 := ⟨29, by decide +kernel, by decide, rfl⟩
theorem eX1_broke_167 : D1 cX1_broke 167 (.iload_n 2) 168 := ⟨by decide +kernel, rfl⟩
theorem eX1_broke_168 : DC cX1_broke 168 (1) 169 := Or.inl ⟨1, ⟨by decide +kernel, rfl⟩, by decide⟩
theorem eX1_broke_169 : DJ cX1_broke 169 (.if_icmp .ne) 177 172 := ⟨8, by decide +kernel, by decide, rfl⟩
theorem eX1_broke_172 : D2 cX1_broke 172 (.iload 6) 174 := ⟨by decide +kernel, rfl⟩
theorem eX1_broke_174 : DJ cX1_broke 174 .goto 193 177 := ⟨19, by decide +kernel, by decide, rfl⟩
theorem eX1_broke_177 : D2 cX1_broke 177 (.iload 6) 179 := ⟨by decide +kernel, rfl⟩
theorem eX1_broke_179 : DJ cX1_broke 179 (.ifCond .ge) 186 182 := ⟨7, by decide +kernel, by decide, rfl⟩
theorem eX1_broke_182 : DC cX1_broke 182 (-1) 183 := Or.inl ⟨-1, ⟨by decide +kernel, rfl⟩, by decide⟩
theorem eX1_broke_183 : DJ cX1_broke 183 .goto 193 186 := ⟨10, by decide +kernel, by decide, rfl⟩
theorem eX1_broke_186 : D1 cX1_broke 186 (.aload_n 0) 187 := ⟨by decide +kernel, rfl⟩
theorem eX1_broke_187 : D3 cX1_broke 187 (.getfield 105) 190 := ⟨by decide +kernel, rfl⟩
theorem eX1_broke_190 : D2 cX1_broke 190 (.iload 6) 192 := ⟨by decide +kernel, rfl⟩
theorem eX1_broke_192 : D1 cX1_broke 192 (.iaload) 193 := ⟨by decide +kernel, rfl⟩
theorem eX1_broke_193 : D1 cX1_broke 193 (.ireturn) 194 := ⟨by decide +kernel, rfl⟩
theorem eX1_outing_0 : D1 cX1_outing 0 (.iload_n 1) 1 := ⟨by decide +kernel, rfl⟩
theorem eX1_outing_1 : D1 cX1_outing 1 (.i2l) 2 := ⟨by decide +kernel, rfl⟩
theorem eX1_outing_2 : D1 cX1_outing 2 (.lconst 0) 3 := ⟨by decide +kernel, rfl⟩
theorem eX1_outing_3 : D1 cX1_outing 3 (.aload_n 0) 4 := ⟨by decide +kernel, rfl⟩
theorem eX1_outing_4 : D3 cX1_outing 4 (.getfield 308) 7 := ⟨by decide +kernel, rfl⟩
theorem eX1_outing_7 : DC cX1_outing 7 (1) 8 := Or.inl ⟨1, ⟨by decide +kernel, rfl⟩, by decide⟩
theorem eX1_outing_8 : D1 cX1_outing 8 (.isub) 9 := ⟨by decide +kernel, rfl⟩
theorem eX1_outing_9 : D1 cX1_outing 9 (.i2l) 10 := ⟨by decide +kernel, rfl⟩
theorem eX1_outing_10 : D3 cX1_outing 10 (.invokestatic 155) 13 := ⟨by decide +kernel, rfl⟩
theorem eX1_outing_13 : DJ cX1_outing 13 (.ifCond .ne) 18 16 := ⟨5, by decide +kernel, by decide, rfl⟩
theorem eX1_outing_16 : DC cX1_outing 16 (-1) 17 := Or.inl ⟨-1, ⟨by decide +kernel, rfl⟩, by decide⟩
theorem eX1_outing_17 : D1 cX1_outing 17 (.ireturn) 18 := ⟨by decide +kernel, rfl⟩
theorem eX1_outing_18 : D1 cX1_outing 18 (.iload_n 2) 19 := ⟨by decide +kernel, rfl⟩
theorem eX1_outing_19 : decode cX1_outing 19 = .ok (.tableswitch 57 0 3 #[29, 36, 43, 50], 29) := by decide +kernel
theorem eX1_outing_48 : D1 cX1_outing 48 (.aload_n 0) 49 := ⟨by decide +kernel, rfl⟩
theorem eX1_outing_49 : D3 cX1_outing 49 (.getfield 96) 52 := ⟨by decide +kernel, rfl⟩
theorem eX1_outing_52 : D1 cX1_outing 52 (.iload_n 1) 53 := ⟨by decide +kernel, rfl⟩
theorem eX1_outing_53 : D1 cX1_outing 53 (.iaload) 54 := ⟨by decide +kernel, rfl⟩
theorem eX1_outing_54 : D1 cX1_outing 54 (.ireturn) 55 := ⟨by decide +kernel, rfl⟩
theorem eX1_outing_55 : D1 cX1_outing 55 (.aload_n 0) 56 := ⟨by decide +kernel, rfl⟩
theorem eX1_outing_56 : D3 cX1_outing 56 (.getfield 99) 59 := ⟨by decide +kernel, rfl⟩
theorem eX1_outing_59 : D1 cX1_outing 59 (.iload_n 1) 60 := ⟨by decide +kernel, rfl⟩
theorem eX1_outing_60 : D1 cX1_outing 60 (.iaload) 61 := ⟨by decide +kernel, rfl⟩
theorem eX1_outing_61 : D1 cX1_outing 61 (.ireturn) 62 := ⟨by decide +kernel, rfl⟩
theorem eX1_outing_62 : D1 cX1_outing 62 (.aload_n 0) 63 := ⟨by decide +kernel, rfl⟩
theorem eX1_outing_63 : D3 cX1_outing 63 (.getfield 102) 66 := ⟨by decide +kernel, rfl⟩
theorem eX1_outing_66 : D1 cX1_outing 66 (.iload_n 1) 67 := ⟨by decide +kernel, rfl⟩
theorem eX1_outing_67 : D1 cX1_outing 67 (.iaload) 68 := ⟨by decide +kernel, rfl⟩
theorem eX1_outing_68 : D1 cX1_outing 68 (.ireturn) 69 := ⟨by decide +kernel, rfl⟩
theorem eX1_outing_69 : D1 cX1_outing 69 (.aload_n 0) 70 := ⟨by decide +kernel, rfl⟩
theorem eX1_outing_70 : D3 cX1_outing 70 (.getfield 105) 73 := ⟨by decide +kernel, rfl⟩
theorem eX1_outing_73 : D1 cX1_outing 73 (.iload_n 1) 74 := ⟨by decide +kernel, rfl⟩
theorem eX1_outing_74 : D1 cX1_outing 74 (.iaload) 75 := ⟨by decide +kernel, rfl⟩
theorem eX1_outing_75 : D1 cX1_outing 75 (.ireturn) 76 := ⟨by decide +kernel, rfl⟩
theorem eX1_outing_76 : DC cX1_outing 76 (-1) 77 := Or.inl ⟨-1, ⟨by decide +kernel, rfl⟩, by decide⟩
theorem eX1_outing_77 : D1 cX1_outing 77 (.ireturn) 78 := ⟨by decide +kernel, rfl⟩
theorem eX1_heat_0 : D1 cX1_heat 0 (.aload_n 0) 1 := ⟨by decide +kernel, rfl⟩
theorem eX1_heat_1 : D1 cX1_heat 1 (.iload_n 1) 2 := ⟨by decide +kernel, rfl⟩
theorem eX1_heat_2 : D3 cX1_heat 2 (.invokevirtual 142) 5 := ⟨by decide +kernel, rfl⟩
theorem eX1_heat_5 : DJ cX1_heat 5 (.ifCond .ne) 10 8 := ⟨5, by decide +kernel, by decide, rfl⟩
theorem eX1_heat_8 : DC cX1_heat 8 (-1) 9 := Or.inl ⟨-1, ⟨by decide +kernel, rfl⟩, by decide⟩
theorem eX1_heat_9 : D1 cX1_heat 9 (.ireturn) 10 := ⟨by decide +kernel, rfl⟩
theorem eX1_heat_10 : D1 cX1_heat 10 (.iload_n 2) 11 := ⟨by decide +kernel, rfl⟩
theorem eX1_heat_11 : D1 cX1_heat 11 (.i2l) 12 := ⟨by decide +kernel, rfl⟩
theorem eX1_heat_12 : D1 cX1_heat 12 (.lconst 0) 13 := ⟨by decide +kernel, rfl⟩
theorem eX1_heat_13 : D3 cX1_heat 13 (.ldc2_w 319) 16 := ⟨by decide +kernel, rfl⟩
theorem eX1_heat_16 : D3 cX1_heat 16 (.invokestatic 155) 19 := ⟨by decide +kernel, rfl⟩
theorem eX1_heat_19 : DJ cX1_heat 19 (.ifCond .ne) 25 22 := ⟨6, by decide +kernel, by decide, rfl⟩
theorem eX1_heat_22 : DC cX1_heat 22 (-2) 24 := Or.inr (Or.inl ⟨-2, ⟨by decide +kernel, rfl⟩, by decide⟩)
theorem eX1_heat_24 : D1 cX1_heat 24 (.ireturn) 25 := ⟨by decide +kernel, rfl⟩
theorem eX1_heat_25 : D1 cX1_heat 25 (.aload_n 0) 26 := ⟨by decide +kernel, rfl⟩
theorem eX1_heat_26 : D3 cX1_heat 26 (.getfield 321) 29 := ⟨by decide +kernel, rfl⟩
theorem eX1_heat_29 : DC cX1_heat 29 (20) 31 := Or.inr (Or.inl ⟨20, ⟨by decide +kernel, rfl⟩, by decide⟩)
theorem eX1_heat_31 : DJ cX1_heat 31 (.if_icmp .ne) 37 34 := ⟨6, by decide +kernel, by decide, rfl⟩
theorem eX1_heat_34 : DC cX1_heat 34 (-4) 36 := Or.inr (Or.inl ⟨-4, ⟨by decide +kernel, rfl⟩, by decide⟩)
theorem eX1_heat_36 : D1 cX1_heat 36 (.ireturn) 37 := ⟨by decide +kernel, rfl⟩
theorem eX1_heat_37 : D1 cX1_heat 37 (.aload_n 0) 38 := ⟨by decide +kernel, rfl⟩
theorem eX1_heat_38 : D3 cX1_heat 38 (.getfield 117) 41 := ⟨by decide +kernel, rfl⟩
theorem eX1_heat_41 : D1 cX1_heat 41 (.aload_n 0) 42 := ⟨by decide +kernel, rfl⟩
theorem eX1_heat_42 : D3 cX1_heat 42 (.getfield 321) 45 := ⟨by decide +kernel, rfl⟩
theorem eX1_heat_45 : D1 cX1_heat 45 (.iload_n 1) 46 := ⟨by decide +kernel, rfl⟩
theorem eX1_heat_46 : D1 cX1_heat 46 (.iastore) 47 := ⟨by decide +kernel, rfl⟩
theorem eX1_heat_47 : D1 cX1_heat 47 (.aload_n 0) 48 := ⟨by decide +kernel, rfl⟩
theorem eX1_heat_48 : D3 cX1_heat 48 (.getfield 120) 51 := ⟨by decide +kernel, rfl⟩
theorem eX1_heat_51 : D1 cX1_heat 51 (.aload_n 0) 52 := ⟨by decide +kernel, rfl⟩
theorem eX1_heat_52 : D3 cX1_heat 52 (.getfield 321) 55 := ⟨by decide +kernel, rfl⟩
theorem eX1_heat_55 : D1 cX1_heat 55 (.iload_n 2) 56 := ⟨by decide +kernel, rfl⟩
theorem eX1_heat_56 : D1 cX1_heat 56 (.iastore) 57 := ⟨by decide +kernel, rfl⟩
theorem eX1_heat_57 : D1 cX1_heat 57 (.aload_n 0) 58 := ⟨by decide +kernel, rfl⟩
theorem eX1_heat_58 : D1 cX1_heat 58 (.dup) 59 := ⟨by decide +kernel, rfl⟩
theorem eX1_heat_59 : D3 cX1_heat 59 (.getfield 321) 62 := ⟨by decide +kernel, rfl⟩
theorem eX1_heat_62 : DC cX1_heat 62 (1) 63 := Or.inl ⟨1, ⟨by decide +kernel, rfl⟩, by decide⟩
theorem eX1_heat_63 : D1 cX1_heat 63 (.iadd) 64 := ⟨by decide +kernel, rfl⟩
theorem eX1_heat_64 : D3 cX1_heat 64 (.putfield 321) 67 := ⟨by decide +kernel, rfl⟩
theorem eX1_heat_67 : D1 cX1_heat 67 (.aload_n 0) 68 := ⟨by decide +kernel, rfl⟩
theorem eX1_heat_68 : D3 cX1_heat 68 (.getfield 321) 71 := ⟨by decide +kernel, rfl⟩
theorem eX1_heat_71 : DC cX1_heat 71 (1) 72 := Or.inl ⟨1, ⟨by decide +kernel, rfl⟩, by decide⟩
theorem eX1_heat_72 : D1 cX1_heat 72 (.isub) 73 := ⟨by decide +kernel, rfl⟩
theorem eX1_heat_73 : D1 cX1_heat 73 (.ireturn) 74 := ⟨by decide +kernel, rfl⟩
theorem eX1_near_0 : D1 cX1_near 0 (.iload_n 1) 1 := ⟨by decide +kernel, rfl⟩
theorem eX1_near_1 : D1 cX1_near 1 (.i2l) 2 := ⟨by decide +kernel, rfl⟩
theorem eX1_near_2 : D1 cX1_near 2 (.lconst 0) 3 := ⟨by decide +kernel, rfl⟩
theorem eX1_near_3 : D3 cX1_near 3 (.ldc2_w 178) 6 := ⟨by decide +kernel, rfl⟩
theorem eX1_near_6 : D3 cX1_near 6 (.invokestatic 155) 9 := ⟨by decide +kernel, rfl⟩
theorem eX1_near_9 : DJ cX1_near 9 (.ifCond .ne) 15 12 := ⟨6, by decide +kernel, by decide, rfl⟩
theorem eX1_near_12 : DC cX1_near 12 (-2) 14 := Or.inr (Or.inl ⟨-2, ⟨by decide +kernel, rfl⟩, by decide⟩)
theorem eX1_near_14 : D1 cX1_near 14 (.ireturn) 15 := ⟨by decide +kernel, rfl⟩
theorem eX1_near_15 : D1 cX1_near 15 (.aload_n 0) 16 := ⟨by decide +kernel, rfl⟩
theorem eX1_near_16 : D3 cX1_near 16 (.getfield 123) 19 := ⟨by decide +kernel, rfl⟩
theorem eX1_near_19 : D1 cX1_near 19 (.istore_n 2) 20 := ⟨by decide +kernel, rfl⟩
theorem eX1_near_20 : D1 cX1_near 20 (.aload_n 0) 21 := ⟨by decide +kernel, rfl⟩
theorem eX1_near_21 : D1 cX1_near 21 (.iload_n 1) 22 := ⟨by decide +kernel, rfl⟩
theorem eX1_near_22 : D3 cX1_near 22 (.putfield 123) 25 := ⟨by decide +kernel, rfl⟩
theorem eX1_near_25 : D1 cX1_near 25 (.iload_n 2) 26 := ⟨by decide +kernel, rfl⟩
theorem eX1_near_26 : D1 cX1_near 26 (.ireturn) 27 := ⟨by decide +kernel, rfl⟩
theorem eX1_clash_0 : D1 cX1_clash 0 (.iload_n 2) 1 := ⟨by decide +kernel, rfl⟩
theorem eX1_clash_1 : D1 cX1_clash 1 (.aload_n 0) 2 := ⟨by decide +kernel, rfl⟩
theorem eX1_clash_2 : D3 cX1_clash 2 (.getfield 120) 5 := ⟨by decide +kernel, rfl⟩
theorem eX1_clash_5 : D1 cX1_clash 5 (.iload_n 3) 6 := ⟨by decide +kernel, rfl⟩
theorem eX1_clash_6 : D1 cX1_clash 6 (.iaload) 7 := ⟨by decide +kernel, rfl⟩
theorem eX1_clash_7 : DJ cX1_clash 7 (.if_icmp .ge) 21 10 := ⟨14, by decide +kernel, by decide, rfl⟩
theorem eX1_clash_10 : D1 cX1_clash 10 (.aload_n 0) 11 := ⟨by decide +kernel, rfl⟩
theorem eX1_clash_11 : D3 cX1_clash 11 (.getfield 120) 14 := ⟨by decide +kernel, rfl⟩
theorem eX1_clash_14 : D1 cX1_clash 14 (.iload_n 3) 15 := ⟨by decide +kernel, rfl⟩
theorem eX1_clash_15 : D1 cX1_clash 15 (.iaload) 16 := ⟨by decide +kernel, rfl⟩
theorem eX1_clash_16 : D1 cX1_clash 16 (.iload_n 2) 17 := ⟨by decide +kernel, rfl⟩
theorem eX1_clash_17 : D1 cX1_clash 17 (.isub) 18 := ⟨by decide +kernel, rfl⟩
theorem eX1_clash_18 : DJ cX1_clash 18 .goto 29 21 := ⟨11, by decide +kernel, by decide, rfl⟩
theorem eX1_clash_21 : D1 cX1_clash 21 (.iload_n 2) 22 := ⟨by decide +kernel, rfl⟩
theorem eX1_clash_22 : D1 cX1_clash 22 (.aload_n 0) 23 := ⟨by decide +kernel, rfl⟩
theorem eX1_clash_23 : D3 cX1_clash 23 (.getfield 120) 26 := ⟨by decide +kernel, rfl⟩
theorem eX1_clash_26 : D1 cX1_clash 26 (.iload_n 3) 27 := ⟨by decide +kernel, rfl⟩
theorem eX1_clash_27 : D1 cX1_clash 27 (.iaload) 28 := ⟨by decide +kernel, rfl⟩
theorem eX1_clash_28 : D1 cX1_clash 28 (.isub) 29 := ⟨by decide +kernel, rfl⟩
theorem eX1_clash_29 : D2 cX1_clash 29 (.istore 4) 31 := ⟨by decide +kernel, rfl⟩
theorem eX1_clash_31 : D2 cX1_clash 31 (.iload 4) 33 := ⟨by decide +kernel, rfl⟩
theorem eX1_clash_33 : D1 cX1_clash 33 (.aload_n 0) 34 := ⟨by decide +kernel, rfl⟩
theorem eX1_clash_34 : D3 cX1_clash 34 (.getfield 123) 37 := ⟨by decide +kernel, rfl⟩
theorem eX1_clash_37 : DJ cX1_clash 37 (.if_icmp .ge) 83 40 := ⟨46, by decide +kernel, by decide, rfl⟩
theorem eX1_clash_40 : D1 cX1_clash 40 (.aload_n 0) 41 := ⟨by decide +kernel, rfl⟩
theorem eX1_clash_41 : D3 cX1_clash 41 (.getfield 117) 44 := ⟨by decide +kernel, rfl⟩
theorem eX1_clash_44 : D1 cX1_clash 44 (.iload_n 1) 45 := ⟨by decide +kernel, rfl⟩
theorem eX1_clash_45 : D1 cX1_clash 45 (.iaload) 46 := ⟨by decide +kernel, rfl⟩
theorem eX1_clash_46 : D1 cX1_clash 46 (.aload_n 0) 47 := ⟨by decide +kernel, rfl⟩
theorem eX1_clash_47 : D3 cX1_clash 47 (.getfield 117) 50 := ⟨by decide +kernel, rfl⟩
theorem eX1_clash_50 : D1 cX1_clash 50 (.iload_n 3) 51 := ⟨by decide +kernel, rfl⟩
theorem eX1_clash_51 : D1 cX1_clash 51 (.iaload) 52 := ⟨by decide +kernel, rfl⟩
theorem eX1_clash_52 : DJ cX1_clash 52 (.if_icmp .eq) 79 55 := ⟨27, by decide +kernel, by decide, rfl⟩
theorem eX1_clash_55 : D1 cX1_clash 55 (.aload_n 0) 56 := ⟨by decide +kernel, rfl⟩
theorem eX1_clash_56 : D1 cX1_clash 56 (.aload_n 0) 57 := ⟨by decide +kernel, rfl⟩
theorem eX1_clash_57 : D3 cX1_clash 57 (.getfield 117) 60 := ⟨by decide +kernel, rfl⟩
theorem eX1_clash_60 : D1 cX1_clash 60 (.iload_n 1) 61 := ⟨by decide +kernel, rfl⟩
theorem eX1_clash_61 : D1 cX1_clash 61 (.iaload) 62 := ⟨by decide +kernel, rfl⟩
theorem eX1_clash_62 : D3 cX1_clash 62 (.invokevirtual 311) 65 := ⟨by decide +kernel, rfl⟩
theorem eX1_clash_65 : D1 cX1_clash 65 (.aload_n 0) 66 := ⟨by decide +kernel, rfl⟩
theorem eX1_clash_66 : D1 cX1_clash 66 (.aload_n 0) 67 := ⟨by decide +kernel, rfl⟩
theorem eX1_clash_67 : D3 cX1_clash 67 (.getfield 117) 70 := ⟨by decide +kernel, rfl⟩
theorem eX1_clash_70 : D1 cX1_clash 70 (.iload_n 3) 71 := ⟨by decide +kernel, rfl⟩
theorem eX1_clash_71 : D1 cX1_clash 71 (.iaload) 72 := ⟨by decide +kernel, rfl⟩
theorem eX1_clash_72 : D3 cX1_clash 72 (.invokevirtual 311) 75 := ⟨by decide +kernel, rfl⟩
theorem eX1_clash_75 : D1 cX1_clash 75 (.iand) 76 := ⟨by decide +kernel, rfl⟩
theorem eX1_clash_76 : DJ cX1_clash 76 (.ifCond .eq) 83 79 := ⟨7, by decide +kernel, by decide, rfl⟩
theorem eX1_clash_79 : DC cX1_clash 79 (1) 80 := Or.inl ⟨1, ⟨by decide +kernel, rfl⟩, by decide⟩
theorem eX1_clash_80 : DJ cX1_clash 80 .goto 84 83 := ⟨4, by decide +kernel, by decide, rfl⟩
theorem eX1_clash_83 : DC cX1_clash 83 (0) 84 := Or.inl ⟨0, ⟨by decide +kernel, rfl⟩, by decide⟩
theorem eX1_clash_84 : D1 cX1_clash 84 (.ireturn) 85 := ⟨by decide +kernel, rfl⟩
theorem eX1_clashes_0 : DC cX1_clashes 0 (0) 1 := Or.inl ⟨0, ⟨by decide +kernel, rfl⟩, by decide⟩
theorem eX1_clashes_1 : D1 cX1_clashes 1 (.istore_n 1) 2 := ⟨by decide +kernel, rfl⟩
theorem eX1_clashes_2 : DC cX1_clashes 2 (0) 3 := Or.inl ⟨0, ⟨by decide +kernel, rfl⟩, by decide⟩
theorem eX1_clashes_3 : D1 cX1_clashes 3 (.istore_n 2) 4 := ⟨by decide +kernel, rfl⟩
theorem eX1_clashes_4 : D1 cX1_clashes 4 (.iload_n 2) 5 := ⟨by decide +kernel, rfl⟩
theorem eX1_clashes_5 : D1 cX1_clashes 5 (.aload_n 0) 6 := ⟨by decide +kernel, rfl⟩
theorem eX1_clashes_6 : D3 cX1_clashes 6 (.getfield 321) 9 := ⟨by decide +kernel, rfl⟩
theorem eX1_clashes_9 : DJ cX1_clashes 9 (.if_icmp .ge) 54 12 := ⟨45, by decide +kernel, by decide, rfl⟩
theorem eX1_clashes_12 : DC cX1_clashes 12 (0) 13 := Or.inl ⟨0, ⟨by decide +kernel, rfl⟩, by decide⟩
theorem eX1_clashes_13 : D1 cX1_clashes 13 (.istore_n 3) 14 := ⟨by decide +kernel, rfl⟩
theorem eX1_clashes_14 : D1 cX1_clashes 14 (.iload_n 3) 15 := ⟨by decide +kernel, rfl⟩
theorem eX1_clashes_15 : D1 cX1_clashes 15 (.iload_n 2) 16 := ⟨by decide +kernel, rfl⟩
theorem eX1_clashes_16 : DJ cX1_clashes 16 (.if_icmp .ge) 48 19 := ⟨32, by decide +kernel, by decide, rfl⟩
theorem eX1_clashes_19 : D1 cX1_clashes 19 (.iload_n 1) 20 := ⟨by decide +kernel, rfl⟩
theorem eX1_clashes_20 : D1 cX1_clashes 20 (.aload_n 0) 21 := ⟨by decide +kernel, rfl⟩
theorem eX1_clashes_21 : D1 cX1_clashes 21 (.iload_n 2) 22 := ⟨by decide +kernel, rfl⟩
theorem eX1_clashes_22 : D1 cX1_clashes 22 (.aload_n 0) 23 := ⟨by decide +kernel, rfl⟩
theorem eX1_clashes_23 : D3 cX1_clashes 23 (.getfield 120) 26 := ⟨by decide +kernel, rfl⟩
theorem eX1_clashes_26 : D1 cX1_clashes 26 (.iload_n 2) 27 := ⟨by decide +kernel, rfl⟩
theorem eX1_clashes_27 : D1 cX1_clashes 27 (.iaload) 28 := ⟨by decide +kernel, rfl⟩
theorem eX1_clashes_28 : D1 cX1_clashes 28 (.iload_n 3) 29 := ⟨by decide +kernel, rfl⟩
theorem eX1_clashes_29 : D3 cX1_clashes 29 (.invokevirtual 324) 32 := ⟨by decide +kernel, rfl⟩
theorem eX1_clashes_32 : DJ cX1_clashes 32 (.ifCond .eq) 39 35 := ⟨7, by decide +kernel, by decide, rfl⟩
theorem eX1_clashes_35 : DC cX1_clashes 35 (1) 36 := Or.inl ⟨1, ⟨by decide +kernel, rfl⟩, by decide⟩
theorem eX1_clashes_36 : DJ cX1_clashes 36 .goto 40 39 := ⟨4, by decide +kernel, by decide, rfl⟩
theorem eX1_clashes_39 : DC cX1_clashes 39 (0) 40 := Or.inl ⟨0, ⟨by decide +kernel, rfl⟩, by decide⟩
theorem eX1_clashes_40 : D1 cX1_clashes 40 (.iadd) 41 := ⟨by decide +kernel, rfl⟩
theorem eX1_clashes_41 : D1 cX1_clashes 41 (.istore_n 1) 42 := ⟨by decide +kernel, rfl⟩
theorem eX1_clashes_42 : D3 cX1_clashes 42 (.iinc 3 1) 45 := ⟨by decide +kernel, rfl⟩
theorem eX1_clashes_45 : DJ cX1_clashes 45 .goto 14 48 := ⟨-31, by decide +kernel, by decide, rfl⟩
theorem eX1_clashes_48 : D3 cX1_clashes 48 (.iinc 2 1) 51 := ⟨by decide +kernel, rfl⟩
theorem eX1_clashes_51 : DJ cX1_clashes 51 .goto 4 54 := ⟨-47, by decide +kernel, by decide, rfl⟩
theorem eX1_clashes_54 : D1 cX1_clashes 54 (.iload_n 1) 55 := ⟨by decide +kernel, rfl⟩
theorem eX1_clashes_55 : D1 cX1_clashes 55 (.ireturn) 56 := ⟨by decide +kernel, rfl⟩
theorem eX1_shift_0 : D1 cX1_shift 0 (.iload_n 1) 1 := ⟨by decide +kernel, rfl⟩
theorem eX1_shift_1 : D1 cX1_shift 1 (.i2l) 2 := ⟨by decide +kernel, rfl⟩
theorem eX1_shift_2 : D1 cX1_shift 2 (.lconst 0) 3 := ⟨by decide +kernel, rfl⟩
theorem eX1_shift_3 : D1 cX1_shift 3 (.aload_n 0) 4 := ⟨by decide +kernel, rfl⟩
theorem eX1_shift_4 : D3 cX1_shift 4 (.getfield 321) 7 := ⟨by decide +kernel, rfl⟩
theorem eX1_shift_7 : DC cX1_shift 7 (1) 8 := Or.inl ⟨1, ⟨by decide +kernel, rfl⟩, by decide⟩
theorem eX1_shift_8 : D1 cX1_shift 8 (.isub) 9 := ⟨by decide +kernel, rfl⟩
theorem eX1_shift_9 : D1 cX1_shift 9 (.i2l) 10 := ⟨by decide +kernel, rfl⟩
theorem eX1_shift_10 : D3 cX1_shift 10 (.invokestatic 155) 13 := ⟨by decide +kernel, rfl⟩
theorem eX1_shift_13 : DJ cX1_shift 13 (.ifCond .ne) 18 16 := ⟨5, by decide +kernel, by decide, rfl⟩
theorem eX1_shift_16 : DC cX1_shift 16 (-1) 17 := Or.inl ⟨-1, ⟨by decide +kernel, rfl⟩, by decide⟩
theorem eX1_shift_17 : D1 cX1_shift 17 (.ireturn) 18 := ⟨by decide +kernel, rfl⟩
theorem eX1_shift_18 : D1 cX1_shift 18 (.aload_n 0) 19 := ⟨by decide +kernel, rfl⟩
theorem eX1_shift_19 : D3 cX1_shift 19 (.getfield 120) 22 := ⟨by decide +kernel, rfl⟩
theorem eX1_shift_22 : D1 cX1_shift 22 (.iload_n 1) 23 := ⟨by decide +kernel, rfl⟩
theorem eX1_shift_23 : D1 cX1_shift 23 (.iaload) 24 := ⟨by decide +kernel, rfl⟩
theorem eX1_shift_24 : D1 cX1_shift 24 (.istore_n 2) 25 := ⟨by decide +kernel, rfl⟩
theorem eX1_shift_25 : D1 cX1_shift 25 (.iload_n 2) 26 := ⟨by decide +kernel, rfl⟩
theorem eX1_shift_26 : DC cX1_shift 26 (1440) 29 := Or.inr (Or.inr ⟨1440, ⟨by decide +kernel, rfl⟩, by decide⟩)
theorem eX1_shift_29 : DJ cX1_shift 29 (.if_icmp .ge) 91 32 := ⟨62, by decide +kernel, by decide, rfl⟩
theorem eX1_shift_32 : DC cX1_shift 32 (1) 33 := Or.inl ⟨1, ⟨by decide +kernel, rfl⟩, by decide⟩
theorem eX1_shift_33 : D1 cX1_shift 33 (.istore_n 3) 34 := ⟨by decide +kernel, rfl⟩
theorem eX1_shift_34 : DC cX1_shift 34 (0) 35 := Or.inl ⟨0, ⟨by decide +kernel, rfl⟩, by decide⟩
theorem eX1_shift_35 : D2 cX1_shift 35 (.istore 4) 37 := ⟨by decide +kernel, rfl⟩
theorem eX1_shift_37 : D2 cX1_shift 37 (.iload 4) 39 := ⟨by decide +kernel, rfl⟩
theorem eX1_shift_39 : D1 cX1_shift 39 (.aload_n 0) 40 := ⟨by decide +kernel, rfl⟩
theorem eX1_shift_40 : D3 cX1_shift 40 (.getfield 321) 43 := ⟨by decide +kernel, rfl⟩
theorem eX1_shift_43 : DJ cX1_shift 43 (.if_icmp .ge) 79 46 := ⟨36, by decide +kernel, by decide, rfl⟩
theorem eX1_shift_46 : D1 cX1_shift 46 (.iload_n 3) 47 := ⟨by decide +kernel, rfl⟩
theorem eX1_shift_47 : DJ cX1_shift 47 (.ifCond .eq) 79 50 := ⟨32, by decide +kernel, by decide, rfl⟩
theorem eX1_shift_50 : D2 cX1_shift 50 (.iload 4) 52 := ⟨by decide +kernel, rfl⟩
theorem eX1_shift_52 : D1 cX1_shift 52 (.iload_n 1) 53 := ⟨by decide +kernel, rfl⟩
theorem eX1_shift_53 : DJ cX1_shift 53 (.if_icmp .eq) 67 56 := ⟨14, by decide +kernel, by decide, rfl⟩
theorem eX1_shift_56 : D1 cX1_shift 56 (.aload_n 0) 57 := ⟨by decide +kernel, rfl⟩
theorem eX1_shift_57 : D1 cX1_shift 57 (.iload_n 1) 58 := ⟨by decide +kernel, rfl⟩
theorem eX1_shift_58 : D1 cX1_shift 58 (.iload_n 2) 59 := ⟨by decide +kernel, rfl⟩
theorem eX1_shift_59 : D2 cX1_shift 59 (.iload 4) 61 := ⟨by decide +kernel, rfl⟩
theorem eX1_shift_61 : D3 cX1_shift 61 (.invokevirtual 324) 64 := ⟨by decide +kernel, rfl⟩
theorem eX1_shift_64 : DJ cX1_shift 64 (.ifCond .ne) 71 67 := ⟨7, by decide +kernel, by decide, rfl⟩
theorem eX1_shift_67 : DC cX1_shift 67 (1) 68 := Or.inl ⟨1, ⟨by decide +kernel, rfl⟩, by decide⟩
theorem eX1_shift_68 : DJ cX1_shift 68 .goto 72 71 := ⟨4, by decide +kernel, by decide, rfl⟩
theorem eX1_shift_71 : DC cX1_shift 71 (0) 72 := Or.inl ⟨0, ⟨by decide +kernel, rfl⟩, by decide⟩
theorem eX1_shift_72 : D1 cX1_shift 72 (.istore_n 3) 73 := ⟨by decide +kernel, rfl⟩
theorem eX1_shift_73 : D3 cX1_shift 73 (.iinc 4 1) 76 := ⟨by decide +kernel, rfl⟩
theorem eX1_shift_76 : DJ cX1_shift 76 .goto 37 79 := ⟨-39, by decide +kernel, by decide, rfl⟩
theorem eX1_shift_79 : D1 cX1_shift 79 (.iload_n 3) 80 := ⟨by decide +kernel, rfl⟩
theorem eX1_shift_80 : DJ cX1_shift 80 (.ifCond .eq) 85 83 := ⟨5, by decide +kernel, by decide, rfl⟩
theorem eX1_shift_83 : D1 cX1_shift 83 (.iload_n 2) 84 := ⟨by decide +kernel, rfl⟩
theorem eX1_shift_84 : D1 cX1_shift 84 (.ireturn) 85 := ⟨by decide +kernel, rfl⟩
theorem eX1_shift_85 : D3 cX1_shift 85 (.iinc 2 1) 88 := ⟨by decide +kernel, rfl⟩
theorem eX1_shift_88 : DJ cX1_shift 88 .goto 25 91 := ⟨-63, by decide +kernel, by decide, rfl⟩
theorem eX1_shift_91 : DC cX1_shift 91 (-3) 93 := Or.inr (Or.inl ⟨-3, ⟨by decide +kernel, rfl⟩, by decide⟩)
theorem eX1_shift_93 : D1 cX1_shift 93 (.ireturn) 94 := ⟨by decide +kernel, rfl⟩
def sM_ruled (w : Wd) (a1 : Int32) (a2 : Int32) : Option (Int32) :=
  bd (sM_isBoat w a1) fun v1 => if v1 = 0 then (some (-1 : Int32)) else (bd (sM_isIn (Int32.toInt64 a2) (0 : Int64) (23 : Int64)) fun v2 => if v2 = 0 then (some (-2 : Int32)) else (bd (sM_asked w a1 a2) fun v3 => some v3))
abbrev rmX1_ruled : Room := { frames := 4, cells := 0, slots := 0, locals := 100 }
theorem pkX1_ruled : PkV yX1_ruled RX1 cX1_ruled 3 (some .int) 2 := ⟨q1113, q1114, q58, q1115, by decide +kernel⟩
set_option maxHeartbeats 4000000 in
theorem met_X1_ruled (l : Launch) (D : va_G) (g : Nat → ClassId) (ad : Nat → Nat) (w : Wd) (a1 : Int32) (a2 : Int32) (sz : Nat) (r : Int32) (ho : sM_ruled w a1 a2 = some r) : Met l yX1_ruled (ws_ yX1_ruled cX1_ruled 3 (some .int)) rmX1_ruled (va_Pc [.ref (ad 99), .int a1, .int a2] (MPre D vwCl (tysG g) (cellsM g ad w) NT sz)) (QcI D vwCl (tysG g) (cellsM g ad w) r (va_A (cellsM g ad w) sz)) 0 0 (va_A (cellsM g ad w) sz) := by
  refine met_XJ (cw := cellsM g ad) (w := w) (cc := cX1_ruled) (lv := [(0, .ref (ad 99)), (1, .int a1), (2, .int a2)]) pnX1 _ (Nat.le_of_ble_eq_true rfl) rfl ?_
  intro p e s m args below meth c R Q A B hN hr hsz hA hmm hRm hQ hAe
  unfold sM_ruled at ho
  refine j_aload_n B eX1_ruled_0 0 rfl ?_
  refine j_iload_n B eX1_ruled_1 1 rfl ?_
  refine j_callVi (As := [.int a1]) B hA (met_X1_isBoat l D g ad w a1) NT_ok pkX1_isBoat q951 0 rfl rfl rfl rfl hRm ⟨Nat.le_of_ble_eq_true rfl, Nat.le_of_ble_eq_true rfl⟩ rfl rfl (Nat.le_of_ble_eq_true rfl) ⟨Nat.zero_le _, Nat.zero_le _⟩ eX1_ruled_2 ho (fun v1 ho => ?_)
  refine j_if_ne B eX1_ruled_5 ho (fun _ ho => ?_) (fun _ ho => ?_)
  · refine j_iload_n B eX1_ruled_10 2 rfl ?_
    refine j_i2l B eX1_ruled_11 ?_
    refine j_lconst (v := 0) B eX1_ruled_12 rfl ?_
    refine j_ldc2 B eX1_ruled_13 q1035 ?_
    refine j_callSi (As := [.long (Int32.toInt64 a2), .long (0 : Int64), .long (23 : Int64)]) B hA (met_X1_isIn l D _ _ _ (Int32.toInt64 a2) (0 : Int64) (23 : Int64)) NT_ok pkX1_isIn q925 rfl rfl hRm ⟨Nat.le_of_ble_eq_true rfl, Nat.le_of_ble_eq_true rfl⟩ rfl rfl (Nat.le_of_ble_eq_true rfl) ⟨Nat.zero_le _, Nat.zero_le _⟩ eX1_ruled_16 ho (fun v2 ho => ?_)
    refine j_if_eq B eX1_ruled_19 ho (fun _ ho => ?_) (fun _ ho => ?_)
    · refine j_const B eX1_ruled_31 ?_
      exact j_iret B hr hQ eX1_ruled_33 ho
    · refine j_aload_n B eX1_ruled_22 0 rfl ?_
      refine j_iload_n B eX1_ruled_23 1 rfl ?_
      refine j_iload_n B eX1_ruled_24 2 rfl ?_
      refine j_callVi (As := [.int a1, .int a2]) B hA (met_X1_asked l D g ad w a1 a2) NT_ok pkX1_asked q1116 0 rfl rfl rfl rfl hRm ⟨Nat.le_of_ble_eq_true rfl, Nat.le_of_ble_eq_true rfl⟩ rfl rfl (Nat.le_of_ble_eq_true rfl) ⟨Nat.zero_le _, Nat.zero_le _⟩ eX1_ruled_25 ho (fun v3 ho => ?_)
      refine j_goto B eX1_ruled_28 ?_
      exact j_iret B hr hQ eX1_ruled_33 ho
  · refine j_const B eX1_ruled_8 ?_
    exact j_iret B hr hQ eX1_ruled_9 ho
def sM_ashore_L114 (a1 : Int32) (a2 : Int32) (w : Wd) (J14 : Option (Int32)) : Int32 → Option (Int32) :=
  fx (fun _ => none) (fun self19 x18 =>
    if (w.2.1 90 10) ≤ x18 then (J14) else (rd (inb x18 16) (w.2.1 2 (Int32.toNatClampNeg x18)) fun v20 => if v20 = a1 then (bd (sM_mayBeOut w x18 a2) fun v22 => if v22 = 0 then (some (4 : Int32)) else (nm (x18 + (1 : Int32)) fun x23 => self19 x23)) else (nm (x18 + (1 : Int32)) fun x21 => self19 x21))) FU
def sM_ashore_L16 (a1 : Int32) (w : Wd) (J5 : Int32 → Option (Int32)) : Int32 → Int32 → Option (Int32) :=
  fx (fun _ _ => none) (fun self27 x25 x26 =>
    bd (sM_seatsOf w a1) fun v28 => if v28 ≤ x26 then (J5 x25) else (bd (sM_sitter w a1 x26) fun v29 => nm v29 fun x30 => if 0 ≤ x30 then (rd (inb x30 16) (w.2.1 1 (Int32.toNatClampNeg x30)) fun v31 => nm (x25 + v31) fun x32 => nm (x26 + (1 : Int32)) fun x33 => self27 x32 x33) else (some (2 : Int32)))) FU
def sM_ashore (w : Wd) (a1 : Int32) (a2 : Int32) : Option (Int32) :=
  rd (inb a1 8) (w.2.1 5 (Int32.toNatClampNeg a1)) fun v1 => if v1 = 0 then (nm (0 : Int32) fun x2 => nm (0 : Int32) fun x3 => jn (fun x4 => bd (sM_hasCox w a1) fun v6 => jn (bd (sM_seatsOf w a1) fun v8 => rd (!decide (v8 = 0)) (x4 / v8) fun v9 => nm v9 fun x10 => rd (inb a1 8) (w.2.1 7 (Int32.toNatClampNeg a1)) fun v11 => if x10 < v11 then (some (3 : Int32)) else (rd (inb a1 8) (w.2.1 8 (Int32.toNatClampNeg a1)) fun v12 => if x10 ≤ v12 then (nm (0 : Int32) fun x13 => jn (bd (sM_asked w a1 a2) fun v15 => nm v15 fun x16 => if x16 < 0 then (some (0 : Int32)) else (rd (inb x16 10) (w.2.1 32 (Int32.toNatClampNeg x16)) fun v17 => if v17 = 0 then (some (0 : Int32)) else (some (5 : Int32)))) fun J14 => sM_ashore_L114 a1 a2 w J14 x13) else (some (3 : Int32)))) fun J7 => if v6 = 0 then (J7) else (bd (sM_sitter w a1 (8 : Int32)) fun v24 => if 0 ≤ v24 then (J7) else (some (2 : Int32)))) fun J5 => sM_ashore_L16 a1 w J5 x2 x3) else (some (1 : Int32))
abbrev rmX1_ashore : Room := { frames := 4, cells := 0, slots := 0, locals := 100 }
theorem pkX1_ashore : PkV yX1_ashore RX1 cX1_ashore 6 (some .int) 2 := ⟨q1134, qs52, q58, q1135, by decide +kernel⟩
set_option maxHeartbeats 4000000 in
theorem met_X1_ashore (l : Launch) (D : va_G) (g : Nat → ClassId) (ad : Nat → Nat) (w : Wd) (a1 : Int32) (a2 : Int32) (sz : Nat) (r : Int32) (ho : sM_ashore w a1 a2 = some r) : Met l yX1_ashore (ws_ yX1_ashore cX1_ashore 6 (some .int)) rmX1_ashore (va_Pc [.ref (ad 99), .int a1, .int a2] (MPre D vwCl (tysG g) (cellsM g ad w) NT sz)) (QcI D vwCl (tysG g) (cellsM g ad w) r (va_A (cellsM g ad w) sz)) 0 0 (va_A (cellsM g ad w) sz) := by
  refine met_XJ (cw := cellsM g ad) (w := w) (cc := cX1_ashore) (lv := [(0, .ref (ad 99)), (1, .int a1), (2, .int a2)]) pnX1 _ (Nat.le_of_ble_eq_true rfl) rfl ?_
  intro p e s m args below meth c R Q A B hN hr hsz hA hmm hRm hQ hAe
  unfold sM_ashore at ho
  refine j_aload_n B eX1_ashore_0 0 rfl ?_
  refine gfM_5 B eX1_ashore_1 ?_
  refine j_iload_n B eX1_ashore_4 1 rfl ?_
  refine ldM_5 B eX1_ashore_5 ho (fun v1 ho => ?_)
  refine j_if_eq B eX1_ashore_6 ho (fun _ ho => ?_) (fun _ ho => ?_)
  · refine j_const B eX1_ashore_11 ?_
    refine j_istore_n (lv' := fun x2 => [(0, .ref (ad 99)), (1, .int a1), (2, .int a2), (3, .int x2)]) B eX1_ashore_12 [1, 2, 3, 0] (by decide) (fun _ => rfl) ho (fun x2 ho => ?_)
    refine j_const B eX1_ashore_13 ?_
    refine j_istore (lv' := fun x3 => [(0, .ref (ad 99)), (1, .int a1), (2, .int a2), (3, .int x2), (4, .int x3)]) B eX1_ashore_14 [1, 2, 3, 4, 0] (by decide) (fun _ => rfl) ho (fun x3 ho => ?_)
    refine jn1 (C := fun x4 => XJ p l e R s m args below meth c 0 0 Q A D vwCl (cellsM g ad) 6 w 58 [(0, .ref (ad 99)), (1, .int a1), (2, .int a2), (3, .int x4)] []) ho (fun x4 ho => ?_) (fun J5 hJ5 ho => ?_)
    · refine j_aload_n B eX1_ashore_58 0 rfl ?_
      refine j_iload_n B eX1_ashore_59 1 rfl ?_
      refine j_callVi (As := [.int a1]) B hA (met_X1_hasCox l D g ad w a1) NT_ok pkX1_hasCox q959 0 rfl rfl rfl rfl hRm ⟨Nat.le_of_ble_eq_true rfl, Nat.le_of_ble_eq_true rfl⟩ rfl rfl (Nat.le_of_ble_eq_true rfl) ⟨Nat.zero_le _, Nat.zero_le _⟩ eX1_ashore_60 ho (fun v6 ho => ?_)
      refine jn0 (C := XJ p l e R s m args below meth c 0 0 Q A D vwCl (cellsM g ad) 6 w 78 [(0, .ref (ad 99)), (1, .int a1), (2, .int a2), (3, .int x4)] []) ho (fun ho => ?_) (fun J7 hJ7 ho => ?_)
      · refine j_iload_n B eX1_ashore_78 3 rfl ?_
        refine j_aload_n B eX1_ashore_79 0 rfl ?_
        refine j_iload_n B eX1_ashore_80 1 rfl ?_
        refine j_callVi (As := [.int a1]) B hA (met_X1_seatsOf l D g ad w a1) NT_ok pkX1_seatsOf q955 0 rfl rfl rfl rfl hRm ⟨Nat.le_of_ble_eq_true rfl, Nat.le_of_ble_eq_true rfl⟩ rfl rfl (Nat.le_of_ble_eq_true rfl) ⟨Nat.zero_le _, Nat.zero_le _⟩ eX1_ashore_81 ho (fun v8 ho => ?_)
        refine j_idivG B eX1_ashore_84 ho (fun v9 ho => ?_)
        refine j_istore (lv' := fun x10 => [(0, .ref (ad 99)), (1, .int a1), (2, .int a2), (4, .int x10)]) B eX1_ashore_85 [1, 2, 3, 0] (by decide) (fun _ => rfl) ho (fun x10 ho => ?_)
        refine j_iload B eX1_ashore_87 3 rfl ?_
        refine j_aload_n B eX1_ashore_89 0 rfl ?_
        refine gfM_7 B eX1_ashore_90 ?_
        refine j_iload_n B eX1_ashore_93 1 rfl ?_
        refine ldM_7 B eX1_ashore_94 ho (fun v11 ho => ?_)
        refine j_icmp_lt B eX1_ashore_95 ho (fun _ ho => ?_) (fun _ ho => ?_)
        · refine j_const B eX1_ashore_109 ?_
          exact j_iret B hr hQ eX1_ashore_110 ho
        · refine j_iload B eX1_ashore_98 3 rfl ?_
          refine j_aload_n B eX1_ashore_100 0 rfl ?_
          refine gfM_8 B eX1_ashore_101 ?_
          refine j_iload_n B eX1_ashore_104 1 rfl ?_
          refine ldM_8 B eX1_ashore_105 ho (fun v12 ho => ?_)
          refine j_icmp_le B eX1_ashore_106 ho (fun _ ho => ?_) (fun _ ho => ?_)
          · refine j_const B eX1_ashore_111 ?_
            refine j_istore (lv' := fun x13 => [(0, .ref (ad 99)), (1, .int a1), (2, .int a2), (5, .int x13)]) B eX1_ashore_112 [1, 2, 3, 0] (by decide) (fun _ => rfl) ho (fun x13 ho => ?_)
            refine jn0 (C := XJ p l e R s m args below meth c 0 0 Q A D vwCl (cellsM g ad) 6 w 152 [(0, .ref (ad 99)), (1, .int a1), (2, .int a2)] []) ho (fun ho => ?_) (fun J14 hJ14 ho => ?_)
            · refine j_aload_n B eX1_ashore_152 0 rfl ?_
              refine j_iload_n B eX1_ashore_153 1 rfl ?_
              refine j_iload_n B eX1_ashore_154 2 rfl ?_
              refine j_callVi (As := [.int a1, .int a2]) B hA (met_X1_asked l D g ad w a1 a2) NT_ok pkX1_asked q1116 0 rfl rfl rfl rfl hRm ⟨Nat.le_of_ble_eq_true rfl, Nat.le_of_ble_eq_true rfl⟩ rfl rfl (Nat.le_of_ble_eq_true rfl) ⟨Nat.zero_le _, Nat.zero_le _⟩ eX1_ashore_155 ho (fun v15 ho => ?_)
              refine j_istore (lv' := fun x16 => [(0, .ref (ad 99)), (5, .int x16)]) B eX1_ashore_158 [1, 0] (by decide) (fun _ => rfl) ho (fun x16 ho => ?_)
              refine j_iload B eX1_ashore_160 1 rfl ?_
              refine j_if_lt B eX1_ashore_162 ho (fun _ ho => ?_) (fun _ ho => ?_)
              · refine j_const B eX1_ashore_179 ?_
                exact j_iret B hr hQ eX1_ashore_180 ho
              · refine j_aload_n B eX1_ashore_165 0 rfl ?_
                refine gfM_32 B eX1_ashore_166 ?_
                refine j_iload B eX1_ashore_169 1 rfl ?_
                refine ldM_32 B eX1_ashore_171 ho (fun v17 ho => ?_)
                refine j_if_eq B eX1_ashore_172 ho (fun _ ho => ?_) (fun _ ho => ?_)
                · refine j_const B eX1_ashore_179 ?_
                  exact j_iret B hr hQ eX1_ashore_180 ho
                · refine j_const B eX1_ashore_175 ?_
                  refine j_goto B eX1_ashore_176 ?_
                  exact j_iret B hr hQ eX1_ashore_180 ho
            · unfold sM_ashore_L114 at ho
              refine fx1 (C := fun x18 => XJ p l e R s m args below meth c 0 0 Q A D vwCl (cellsM g ad) 6 w 114 [(0, .ref (ad 99)), (1, .int a1), (2, .int a2), (5, .int x18)] []) (fun self19 hself19 x18 ho => ?_) FU _ ho
              refine j_iload B eX1_ashore_114 3 rfl ?_
              refine j_aload_n B eX1_ashore_116 0 rfl ?_
              refine gfM_10 B eX1_ashore_117 ?_
              refine j_icmp_ge B eX1_ashore_120 ho (fun _ ho => ?_) (fun _ ho => ?_)
              · refine j_lsub (lv' := [(0, .ref (ad 99)), (1, .int a1), (2, .int a2)]) [0, 1, 2] rfl ?_
                exact hJ14 ho
              · refine j_aload_n B eX1_ashore_123 0 rfl ?_
                refine gfM_2 B eX1_ashore_124 ?_
                refine j_iload B eX1_ashore_127 3 rfl ?_
                refine ldM_2 B eX1_ashore_129 ho (fun v20 ho => ?_)
                refine j_iload_n B eX1_ashore_130 1 rfl ?_
                refine j_icmp_ne B eX1_ashore_131 ho (fun _ ho => ?_) (fun _ ho => ?_)
                · refine j_iinc (d := 1) (lv' := fun x21 => [(0, .ref (ad 99)), (1, .int a1), (2, .int a2), (5, .int x21)]) B eX1_ashore_146 3 rfl (by decide) [1, 2, 3, 0] (by decide) (fun _ => rfl) ho (fun x21 ho => ?_)
                  refine j_goto B eX1_ashore_149 ?_
                  exact hself19 _ ho
                · refine j_aload_n B eX1_ashore_134 0 rfl ?_
                  refine j_iload B eX1_ashore_135 3 rfl ?_
                  refine j_iload_n B eX1_ashore_137 2 rfl ?_
                  refine j_callVi (As := [.int x18, .int a2]) B hA (met_X1_mayBeOut l D g ad w x18 a2) NT_ok pkX1_mayBeOut q1045 0 rfl rfl rfl rfl hRm ⟨Nat.le_of_ble_eq_true rfl, Nat.le_of_ble_eq_true rfl⟩ rfl rfl (Nat.le_of_ble_eq_true rfl) ⟨Nat.zero_le _, Nat.zero_le _⟩ eX1_ashore_138 ho (fun v22 ho => ?_)
                  refine j_if_ne B eX1_ashore_141 ho (fun _ ho => ?_) (fun _ ho => ?_)
                  · refine j_iinc (d := 1) (lv' := fun x23 => [(0, .ref (ad 99)), (1, .int a1), (2, .int a2), (5, .int x23)]) B eX1_ashore_146 3 rfl (by decide) [1, 2, 3, 0] (by decide) (fun _ => rfl) ho (fun x23 ho => ?_)
                    refine j_goto B eX1_ashore_149 ?_
                    exact hself19 _ ho
                  · refine j_const B eX1_ashore_144 ?_
                    exact j_iret B hr hQ eX1_ashore_145 ho
          · refine j_const B eX1_ashore_109 ?_
            exact j_iret B hr hQ eX1_ashore_110 ho
      · refine j_if_eq B eX1_ashore_63 ho (fun _ ho => ?_) (fun _ ho => ?_)
        · exact hJ7 ho
        · refine j_aload_n B eX1_ashore_66 0 rfl ?_
          refine j_iload_n B eX1_ashore_67 1 rfl ?_
          refine j_const B eX1_ashore_68 ?_
          refine j_callVi (As := [.int a1, .int (8 : Int32)]) B hA (met_X1_sitter l D g ad w a1 (8 : Int32)) NT_ok pkX1_sitter q963 0 rfl rfl rfl rfl hRm ⟨Nat.le_of_ble_eq_true rfl, Nat.le_of_ble_eq_true rfl⟩ rfl rfl (Nat.le_of_ble_eq_true rfl) ⟨Nat.zero_le _, Nat.zero_le _⟩ eX1_ashore_70 ho (fun v24 ho => ?_)
          refine j_if_ge B eX1_ashore_73 ho (fun _ ho => ?_) (fun _ ho => ?_)
          · exact hJ7 ho
          · refine j_const B eX1_ashore_76 ?_
            exact j_iret B hr hQ eX1_ashore_77 ho
    · unfold sM_ashore_L16 at ho
      refine fx2 (C := fun x25 x26 => XJ p l e R s m args below meth c 0 0 Q A D vwCl (cellsM g ad) 6 w 16 [(0, .ref (ad 99)), (1, .int a1), (2, .int a2), (3, .int x25), (4, .int x26)] []) (fun self27 hself27 x25 x26 ho => ?_) FU _ _ ho
      refine j_iload B eX1_ashore_16 4 rfl ?_
      refine j_aload_n B eX1_ashore_18 0 rfl ?_
      refine j_iload_n B eX1_ashore_19 1 rfl ?_
      refine j_callVi (As := [.int a1]) B hA (met_X1_seatsOf l D g ad w a1) NT_ok pkX1_seatsOf q955 0 rfl rfl rfl rfl hRm ⟨Nat.le_of_ble_eq_true rfl, Nat.le_of_ble_eq_true rfl⟩ rfl rfl (Nat.le_of_ble_eq_true rfl) ⟨Nat.zero_le _, Nat.zero_le _⟩ eX1_ashore_20 ho (fun v28 ho => ?_)
      refine j_icmp_ge B eX1_ashore_23 ho (fun _ ho => ?_) (fun _ ho => ?_)
      · refine j_lsub (lv' := [(0, .ref (ad 99)), (1, .int a1), (2, .int a2), (3, .int x25)]) [0, 1, 2, 3] rfl ?_
        exact hJ5 _ ho
      · refine j_aload_n B eX1_ashore_26 0 rfl ?_
        refine j_iload_n B eX1_ashore_27 1 rfl ?_
        refine j_iload B eX1_ashore_28 4 rfl ?_
        refine j_callVi (As := [.int a1, .int x26]) B hA (met_X1_sitter l D g ad w a1 x26) NT_ok pkX1_sitter q963 0 rfl rfl rfl rfl hRm ⟨Nat.le_of_ble_eq_true rfl, Nat.le_of_ble_eq_true rfl⟩ rfl rfl (Nat.le_of_ble_eq_true rfl) ⟨Nat.zero_le _, Nat.zero_le _⟩ eX1_ashore_30 ho (fun v29 ho => ?_)
        refine j_istore (lv' := fun x30 => [(0, .ref (ad 99)), (1, .int a1), (2, .int a2), (3, .int x25), (4, .int x26), (5, .int x30)]) B eX1_ashore_33 [1, 2, 3, 4, 5, 0] (by decide) (fun _ => rfl) ho (fun x30 ho => ?_)
        refine j_iload B eX1_ashore_35 5 rfl ?_
        refine j_if_ge B eX1_ashore_37 ho (fun _ ho => ?_) (fun _ ho => ?_)
        · refine j_iload_n B eX1_ashore_42 3 rfl ?_
          refine j_aload_n B eX1_ashore_43 0 rfl ?_
          refine gfM_1 B eX1_ashore_44 ?_
          refine j_iload B eX1_ashore_47 5 rfl ?_
          refine ldM_1 B eX1_ashore_49 ho (fun v31 ho => ?_)
          refine j_iadd B eX1_ashore_50 ?_
          refine j_istore_n (lv' := fun x32 => [(0, .ref (ad 99)), (1, .int a1), (2, .int a2), (3, .int x32), (4, .int x26)]) B eX1_ashore_51 [1, 2, 3, 0, 4] (by decide) (fun _ => rfl) ho (fun x32 ho => ?_)
          refine j_iinc (d := 1) (lv' := fun x33 => [(0, .ref (ad 99)), (1, .int a1), (2, .int a2), (3, .int x32), (4, .int x33)]) B eX1_ashore_52 4 rfl (by decide) [1, 2, 3, 4, 0] (by decide) (fun _ => rfl) ho (fun x33 ho => ?_)
          refine j_goto B eX1_ashore_55 ?_
          exact hself27 _ _ ho
        · refine j_const B eX1_ashore_40 ?_
          exact j_iret B hr hQ eX1_ashore_41 ho
  · refine j_const B eX1_ashore_9 ?_
    exact j_iret B hr hQ eX1_ashore_10 ho
def sM_may (w : Wd) (a1 : Int32) (a2 : Int32) : Option (Int32) :=
  bd (sM_isBoat w a1) fun v1 => if v1 = 0 then (some (-1 : Int32)) else (bd (sM_isIn (Int32.toInt64 a2) (0 : Int64) (23 : Int64)) fun v2 => if v2 = 0 then (some (-2 : Int32)) else (bd (sM_ashore w a1 a2) fun v3 => some v3))
abbrev rmX1_may : Room := { frames := 5, cells := 0, slots := 0, locals := 125 }
theorem pkX1_may : PkV yX1_may RX1 cX1_may 3 (some .int) 2 := ⟨q1129, q1130, q58, q1131, by decide +kernel⟩
set_option maxHeartbeats 4000000 in
theorem met_X1_may (l : Launch) (D : va_G) (g : Nat → ClassId) (ad : Nat → Nat) (w : Wd) (a1 : Int32) (a2 : Int32) (sz : Nat) (r : Int32) (ho : sM_may w a1 a2 = some r) : Met l yX1_may (ws_ yX1_may cX1_may 3 (some .int)) rmX1_may (va_Pc [.ref (ad 99), .int a1, .int a2] (MPre D vwCl (tysG g) (cellsM g ad w) NT sz)) (QcI D vwCl (tysG g) (cellsM g ad w) r (va_A (cellsM g ad w) sz)) 0 0 (va_A (cellsM g ad w) sz) := by
  refine met_XJ (cw := cellsM g ad) (w := w) (cc := cX1_may) (lv := [(0, .ref (ad 99)), (1, .int a1), (2, .int a2)]) pnX1 _ (Nat.le_of_ble_eq_true rfl) rfl ?_
  intro p e s m args below meth c R Q A B hN hr hsz hA hmm hRm hQ hAe
  unfold sM_may at ho
  refine j_aload_n B eX1_may_0 0 rfl ?_
  refine j_iload_n B eX1_may_1 1 rfl ?_
  refine j_callVi (As := [.int a1]) B hA (met_X1_isBoat l D g ad w a1) NT_ok pkX1_isBoat q951 0 rfl rfl rfl rfl hRm ⟨Nat.le_of_ble_eq_true rfl, Nat.le_of_ble_eq_true rfl⟩ rfl rfl (Nat.le_of_ble_eq_true rfl) ⟨Nat.zero_le _, Nat.zero_le _⟩ eX1_may_2 ho (fun v1 ho => ?_)
  refine j_if_ne B eX1_may_5 ho (fun _ ho => ?_) (fun _ ho => ?_)
  · refine j_iload_n B eX1_may_10 2 rfl ?_
    refine j_i2l B eX1_may_11 ?_
    refine j_lconst (v := 0) B eX1_may_12 rfl ?_
    refine j_ldc2 B eX1_may_13 q1035 ?_
    refine j_callSi (As := [.long (Int32.toInt64 a2), .long (0 : Int64), .long (23 : Int64)]) B hA (met_X1_isIn l D _ _ _ (Int32.toInt64 a2) (0 : Int64) (23 : Int64)) NT_ok pkX1_isIn q925 rfl rfl hRm ⟨Nat.le_of_ble_eq_true rfl, Nat.le_of_ble_eq_true rfl⟩ rfl rfl (Nat.le_of_ble_eq_true rfl) ⟨Nat.zero_le _, Nat.zero_le _⟩ eX1_may_16 ho (fun v2 ho => ?_)
    refine j_if_eq B eX1_may_19 ho (fun _ ho => ?_) (fun _ ho => ?_)
    · refine j_const B eX1_may_31 ?_
      exact j_iret B hr hQ eX1_may_33 ho
    · refine j_aload_n B eX1_may_22 0 rfl ?_
      refine j_iload_n B eX1_may_23 1 rfl ?_
      refine j_iload_n B eX1_may_24 2 rfl ?_
      refine j_callVi (As := [.int a1, .int a2]) B hA (met_X1_ashore l D g ad w a1 a2) NT_ok pkX1_ashore q1132 0 rfl rfl rfl rfl hRm ⟨Nat.le_of_ble_eq_true rfl, Nat.le_of_ble_eq_true rfl⟩ rfl rfl (Nat.le_of_ble_eq_true rfl) ⟨Nat.zero_le _, Nat.zero_le _⟩ eX1_may_25 ho (fun v3 ho => ?_)
      refine j_goto B eX1_may_28 ?_
      exact j_iret B hr hQ eX1_may_33 ho
  · refine j_const B eX1_may_8 ?_
    exact j_iret B hr hQ eX1_may_9 ho
def sM_day (w : Wd) (a1 : Int32) : Option (Int32 × Wd) :=
  bd (sM_isIn (Int32.toInt64 a1) (Int32.toInt64 (w.2.1 90 31)) (999 : Int64)) fun v1 => if v1 = 0 then (some ((-2 : Int32), w)) else (nm (w.2.1 90 31) fun x2 => nm (stG w 90 31 a1) fun w3 => some (x2, w3))
abbrev rmX1_day : Room := { frames := 1, cells := 0, slots := 0, locals := 25 }
theorem pkX1_day : PkV yX1_day RX1 cX1_day 3 (some .int) 1 := ⟨q1137, q1138, q58, q1139, by decide +kernel⟩
set_option maxHeartbeats 4000000 in
theorem met_X1_day (l : Launch) (D : va_G) (g : Nat → ClassId) (ad : Nat → Nat) (w : Wd) (a1 : Int32) (sz : Nat) (r : Int32) (w' : Wd) (ho : sM_day w a1 = some (r, w')) : Met l yX1_day (ws_ yX1_day cX1_day 3 (some .int)) rmX1_day (va_Pc [.ref (ad 99), .int a1] (MPre D vwCl (tysG g) (cellsM g ad w) NT sz)) (QcI D vwCl (tysG g) (cellsM g ad w') r (va_A (cellsM g ad w) sz)) 0 0 (va_A (cellsM g ad w) sz) := by
  refine met_XJ (cw := cellsM g ad) (w := w) (cc := cX1_day) (lv := [(0, .ref (ad 99)), (1, .int a1)]) pnX1 _ (Nat.le_of_ble_eq_true rfl) rfl ?_
  intro p e s m args below meth c R Q A B hN hr hsz hA hmm hRm hQ hAe
  unfold sM_day at ho
  refine j_iload_n B eX1_day_0 1 rfl ?_
  refine j_i2l B eX1_day_1 ?_
  refine j_aload_n B eX1_day_2 0 rfl ?_
  refine gfM_31 B eX1_day_3 ?_
  refine j_i2l B eX1_day_6 ?_
  refine j_ldc2 B eX1_day_7 q980 ?_
  refine j_callSi (As := [.long (Int32.toInt64 a1), .long (Int32.toInt64 (w.2.1 90 31)), .long (999 : Int64)]) B hA (met_X1_isIn l D _ _ _ (Int32.toInt64 a1) (Int32.toInt64 (w.2.1 90 31)) (999 : Int64)) NT_ok pkX1_isIn q925 rfl rfl hRm ⟨Nat.le_of_ble_eq_true rfl, Nat.le_of_ble_eq_true rfl⟩ rfl rfl (Nat.le_of_ble_eq_true rfl) ⟨Nat.zero_le _, Nat.zero_le _⟩ eX1_day_10 ho (fun v1 ho => ?_)
  refine j_if_ne B eX1_day_13 ho (fun _ ho => ?_) (fun _ ho => ?_)
  · refine j_aload_n B eX1_day_19 0 rfl ?_
    refine gfM_31 B eX1_day_20 ?_
    refine j_istore_n (lv' := fun x2 => [(0, .ref (ad 99)), (1, .int a1), (2, .int x2)]) B eX1_day_23 [1, 2, 0] (by decide) (fun _ => rfl) ho (fun x2 ho => ?_)
    refine j_aload_n B eX1_day_24 0 rfl ?_
    refine j_iload_n B eX1_day_25 1 rfl ?_
    refine pfM_31 B eX1_day_26 ho (fun w3 ho => ?_)
    refine j_iload_n B eX1_day_29 2 rfl ?_
    exact j_iretw B hr hQ eX1_day_30 ho
  · refine j_const B eX1_day_16 ?_
    exact j_iretw B hr hQ eX1_day_18 ho
def sM_whoIn_L4 (a1 : Int32) (w : Wd) : Int32 → Int32 → Option (Int32) :=
  fx (fun _ _ => none) (fun self5 x3 x4 =>
    if (w.2.1 90 10) ≤ x4 then (some x3) else (rd (inb x4 16) (w.2.1 2 (Int32.toNatClampNeg x4)) fun v6 => jn (fun z7 => nm (x3 ||| z7) fun x9 => nm (x4 + (1 : Int32)) fun x10 => self5 x9 x10) fun J8 => if v6 = a1 then (J8 ((1 : Int32) <<< (x4 &&& 31))) else (J8 (0 : Int32)))) FU
def sM_whoIn (w : Wd) (a1 : Int32) : Option (Int32) :=
  nm (0 : Int32) fun x1 => nm (0 : Int32) fun x2 => sM_whoIn_L4 a1 w x1 x2
abbrev rmX1_whoIn : Room := { frames := 0, cells := 0, slots := 0, locals := 0 }
theorem pkX1_whoIn : PkV yX1_whoIn RX1 cX1_whoIn 4 (some .int) 1 := ⟨q1146, qs53, q58, q1147, by decide +kernel⟩
set_option maxHeartbeats 4000000 in
theorem met_X1_whoIn (l : Launch) (D : va_G) (g : Nat → ClassId) (ad : Nat → Nat) (w : Wd) (a1 : Int32) (sz : Nat) (r : Int32) (ho : sM_whoIn w a1 = some r) : Met l yX1_whoIn (ws_ yX1_whoIn cX1_whoIn 4 (some .int)) rmX1_whoIn (va_Pc [.ref (ad 99), .int a1] (MPre D vwCl (tysG g) (cellsM g ad w) NT sz)) (QcI D vwCl (tysG g) (cellsM g ad w) r (va_A (cellsM g ad w) sz)) 0 0 (va_A (cellsM g ad w) sz) := by
  refine met_XJ (cw := cellsM g ad) (w := w) (cc := cX1_whoIn) (lv := [(0, .ref (ad 99)), (1, .int a1)]) pnX1 _ (Nat.le_of_ble_eq_true rfl) rfl ?_
  intro p e s m args below meth c R Q A B hN hr hsz hA hmm hRm hQ hAe
  unfold sM_whoIn at ho
  refine j_const B eX1_whoIn_0 ?_
  refine j_istore_n (lv' := fun x1 => [(0, .ref (ad 99)), (1, .int a1), (2, .int x1)]) B eX1_whoIn_1 [1, 2, 0] (by decide) (fun _ => rfl) ho (fun x1 ho => ?_)
  refine j_const B eX1_whoIn_2 ?_
  refine j_istore_n (lv' := fun x2 => [(0, .ref (ad 99)), (1, .int a1), (2, .int x1), (3, .int x2)]) B eX1_whoIn_3 [1, 2, 3, 0] (by decide) (fun _ => rfl) ho (fun x2 ho => ?_)
  unfold sM_whoIn_L4 at ho
  refine fx2 (C := fun x3 x4 => XJ p l e R s m args below meth c 0 0 Q A D vwCl (cellsM g ad) 4 w 4 [(0, .ref (ad 99)), (1, .int a1), (2, .int x3), (3, .int x4)] []) (fun self5 hself5 x3 x4 ho => ?_) FU _ _ ho
  refine j_iload_n B eX1_whoIn_4 3 rfl ?_
  refine j_aload_n B eX1_whoIn_5 0 rfl ?_
  refine gfM_10 B eX1_whoIn_6 ?_
  refine j_icmp_ge B eX1_whoIn_9 ho (fun _ ho => ?_) (fun _ ho => ?_)
  · refine j_iload_n B eX1_whoIn_38 2 rfl ?_
    exact j_iret B hr hQ eX1_whoIn_39 ho
  · refine j_iload_n B eX1_whoIn_12 2 rfl ?_
    refine j_aload_n B eX1_whoIn_13 0 rfl ?_
    refine gfM_2 B eX1_whoIn_14 ?_
    refine j_iload_n B eX1_whoIn_17 3 rfl ?_
    refine ldM_2 B eX1_whoIn_18 ho (fun v6 ho => ?_)
    refine j_iload_n B eX1_whoIn_19 1 rfl ?_
    refine jn1 (C := fun z7 => XJ p l e R s m args below meth c 0 0 Q A D vwCl (cellsM g ad) 4 w 30 [(0, .ref (ad 99)), (1, .int a1), (3, .int x4)] [.int z7, .int x3]) ho (fun z7 ho => ?_) (fun J8 hJ8 ho => ?_)
    · refine j_ior B eX1_whoIn_30 ?_
      refine j_istore_n (lv' := fun x9 => [(0, .ref (ad 99)), (1, .int a1), (2, .int x9), (3, .int x4)]) B eX1_whoIn_31 [1, 2, 0, 3] (by decide) (fun _ => rfl) ho (fun x9 ho => ?_)
      refine j_iinc (d := 1) (lv' := fun x10 => [(0, .ref (ad 99)), (1, .int a1), (2, .int x9), (3, .int x10)]) B eX1_whoIn_32 3 rfl (by decide) [1, 2, 3, 0] (by decide) (fun _ => rfl) ho (fun x10 ho => ?_)
      refine j_goto B eX1_whoIn_35 ?_
      exact hself5 _ _ ho
    · refine j_icmp_ne B eX1_whoIn_20 ho (fun _ ho => ?_) (fun _ ho => ?_)
      · refine j_const B eX1_whoIn_29 ?_
        refine j_lsub (lv' := [(0, .ref (ad 99)), (1, .int a1), (3, .int x4)]) [0, 1, 3] rfl ?_
        exact hJ8 _ ho
      · refine j_const B eX1_whoIn_23 ?_
        refine j_iload_n B eX1_whoIn_24 3 rfl ?_
        refine j_ishl B eX1_whoIn_25 ?_
        refine j_goto B eX1_whoIn_26 ?_
        refine j_lsub (lv' := [(0, .ref (ad 99)), (1, .int a1), (3, .int x4)]) [0, 1, 3] rfl ?_
        exact hJ8 _ ho
def sM_out (w : Wd) (a1 : Int32) (a2 : Int32) : Option (Int32 × Wd) :=
  bd (sM_isBoat w a1) fun v1 => if v1 = 0 then (some ((-1 : Int32), w)) else (bd (sM_isIn (Int32.toInt64 a2) (0 : Int64) (23 : Int64)) fun v2 => if v2 = 0 then (some ((-2 : Int32), w)) else (bd (sM_ashore w a1 a2) fun v3 => if v3 = 0 then (if (w.2.1 90 44) = (30 : Int32) then (some ((-4 : Int32), w)) else (rd (inb (w.2.1 90 44) 30) (stG w 37 (Int32.toNatClampNeg (w.2.1 90 44)) a1) fun w4 => rd (inb (w4.2.1 90 44) 30) (stG w4 38 (Int32.toNatClampNeg (w4.2.1 90 44)) (w4.2.1 90 31)) fun w5 => rd (inb (w5.2.1 90 44) 30) (stG w5 39 (Int32.toNatClampNeg (w5.2.1 90 44)) a2) fun w6 => bd (sM_whoIn w6 a1) fun v7 => rd (inb (w6.2.1 90 44) 30) (stG w6 40 (Int32.toNatClampNeg (w6.2.1 90 44)) v7) fun w8 => nm (stG w8 90 44 ((w8.2.1 90 44) + (1 : Int32))) fun w9 => some (((w9.2.1 90 44) - (1 : Int32)), w9))) else (some ((-3 : Int32), w))))
abbrev rmX1_out : Room := { frames := 5, cells := 0, slots := 0, locals := 125 }
theorem pkX1_out : PkV yX1_out RX1 cX1_out 3 (some .int) 2 := ⟨q1141, q1142, q58, q1143, by decide +kernel⟩
set_option maxHeartbeats 4000000 in
theorem met_X1_out (l : Launch) (D : va_G) (g : Nat → ClassId) (ad : Nat → Nat) (w : Wd) (a1 : Int32) (a2 : Int32) (sz : Nat) (r : Int32) (w' : Wd) (ho : sM_out w a1 a2 = some (r, w')) : Met l yX1_out (ws_ yX1_out cX1_out 3 (some .int)) rmX1_out (va_Pc [.ref (ad 99), .int a1, .int a2] (MPre D vwCl (tysG g) (cellsM g ad w) NT sz)) (QcI D vwCl (tysG g) (cellsM g ad w') r (va_A (cellsM g ad w) sz)) 0 0 (va_A (cellsM g ad w) sz) := by
  refine met_XJ (cw := cellsM g ad) (w := w) (cc := cX1_out) (lv := [(0, .ref (ad 99)), (1, .int a1), (2, .int a2)]) pnX1 _ (Nat.le_of_ble_eq_true rfl) rfl ?_
  intro p e s m args below meth c R Q A B hN hr hsz hA hmm hRm hQ hAe
  unfold sM_out at ho
  refine j_aload_n B eX1_out_0 0 rfl ?_
  refine j_iload_n B eX1_out_1 1 rfl ?_
  refine j_callVi (As := [.int a1]) B hA (met_X1_isBoat l D g ad w a1) NT_ok pkX1_isBoat q951 0 rfl rfl rfl rfl hRm ⟨Nat.le_of_ble_eq_true rfl, Nat.le_of_ble_eq_true rfl⟩ rfl rfl (Nat.le_of_ble_eq_true rfl) ⟨Nat.zero_le _, Nat.zero_le _⟩ eX1_out_2 ho (fun v1 ho => ?_)
  refine j_if_ne B eX1_out_5 ho (fun _ ho => ?_) (fun _ ho => ?_)
  · refine j_iload_n B eX1_out_10 2 rfl ?_
    refine j_i2l B eX1_out_11 ?_
    refine j_lconst (v := 0) B eX1_out_12 rfl ?_
    refine j_ldc2 B eX1_out_13 q1035 ?_
    refine j_callSi (As := [.long (Int32.toInt64 a2), .long (0 : Int64), .long (23 : Int64)]) B hA (met_X1_isIn l D _ _ _ (Int32.toInt64 a2) (0 : Int64) (23 : Int64)) NT_ok pkX1_isIn q925 rfl rfl hRm ⟨Nat.le_of_ble_eq_true rfl, Nat.le_of_ble_eq_true rfl⟩ rfl rfl (Nat.le_of_ble_eq_true rfl) ⟨Nat.zero_le _, Nat.zero_le _⟩ eX1_out_16 ho (fun v2 ho => ?_)
    refine j_if_ne B eX1_out_19 ho (fun _ ho => ?_) (fun _ ho => ?_)
    · refine j_aload_n B eX1_out_25 0 rfl ?_
      refine j_iload_n B eX1_out_26 1 rfl ?_
      refine j_iload_n B eX1_out_27 2 rfl ?_
      refine j_callVi (As := [.int a1, .int a2]) B hA (met_X1_ashore l D g ad w a1 a2) NT_ok pkX1_ashore q1132 0 rfl rfl rfl rfl hRm ⟨Nat.le_of_ble_eq_true rfl, Nat.le_of_ble_eq_true rfl⟩ rfl rfl (Nat.le_of_ble_eq_true rfl) ⟨Nat.zero_le _, Nat.zero_le _⟩ eX1_out_28 ho (fun v3 ho => ?_)
      refine j_if_eq B eX1_out_31 ho (fun _ ho => ?_) (fun _ ho => ?_)
      · refine j_aload_n B eX1_out_37 0 rfl ?_
        refine gfM_44 B eX1_out_38 ?_
        refine j_const B eX1_out_41 ?_
        refine j_icmp_ne B eX1_out_43 ho (fun _ ho => ?_) (fun _ ho => ?_)
        · refine j_aload_n B eX1_out_49 0 rfl ?_
          refine gfM_37 B eX1_out_50 ?_
          refine j_aload_n B eX1_out_53 0 rfl ?_
          refine gfM_44 B eX1_out_54 ?_
          refine j_iload_n B eX1_out_57 1 rfl ?_
          refine stM_37 B eX1_out_58 ho (fun w4 ho => ?_)
          refine j_aload_n B eX1_out_59 0 rfl ?_
          refine gfM_38 B eX1_out_60 ?_
          refine j_aload_n B eX1_out_63 0 rfl ?_
          refine gfM_44 B eX1_out_64 ?_
          refine j_aload_n B eX1_out_67 0 rfl ?_
          refine gfM_31 B eX1_out_68 ?_
          refine stM_38 B eX1_out_71 ho (fun w5 ho => ?_)
          refine j_aload_n B eX1_out_72 0 rfl ?_
          refine gfM_39 B eX1_out_73 ?_
          refine j_aload_n B eX1_out_76 0 rfl ?_
          refine gfM_44 B eX1_out_77 ?_
          refine j_iload_n B eX1_out_80 2 rfl ?_
          refine stM_39 B eX1_out_81 ho (fun w6 ho => ?_)
          refine j_aload_n B eX1_out_82 0 rfl ?_
          refine gfM_40 B eX1_out_83 ?_
          refine j_aload_n B eX1_out_86 0 rfl ?_
          refine gfM_44 B eX1_out_87 ?_
          refine j_aload_n B eX1_out_90 0 rfl ?_
          refine j_iload_n B eX1_out_91 1 rfl ?_
          refine j_callVi (As := [.int a1]) B hA (met_X1_whoIn l D g ad w6 a1) NT_ok pkX1_whoIn q1144 0 rfl rfl rfl rfl hRm ⟨Nat.le_of_ble_eq_true rfl, Nat.le_of_ble_eq_true rfl⟩ rfl rfl (Nat.le_of_ble_eq_true rfl) ⟨Nat.zero_le _, Nat.zero_le _⟩ eX1_out_92 ho (fun v7 ho => ?_)
          refine stM_40 B eX1_out_95 ho (fun w8 ho => ?_)
          refine j_aload_n B eX1_out_96 0 rfl ?_
          refine j_dup B eX1_out_97 rfl ?_
          refine gfM_44 B eX1_out_98 ?_
          refine j_const B eX1_out_101 ?_
          refine j_iadd B eX1_out_102 ?_
          refine pfM_44 B eX1_out_103 ho (fun w9 ho => ?_)
          refine j_aload_n B eX1_out_106 0 rfl ?_
          refine gfM_44 B eX1_out_107 ?_
          refine j_const B eX1_out_110 ?_
          refine j_isub B eX1_out_111 ?_
          exact j_iretw B hr hQ eX1_out_112 ho
        · refine j_const B eX1_out_46 ?_
          exact j_iretw B hr hQ eX1_out_48 ho
      · refine j_const B eX1_out_34 ?_
        exact j_iretw B hr hQ eX1_out_36 ho
    · refine j_const B eX1_out_22 ?_
      exact j_iretw B hr hQ eX1_out_24 ho
  · refine j_const B eX1_out_8 ?_
    exact j_iretw B hr hQ eX1_out_9 ho
def sM_look (w : Wd) (a1 : Int32) (a2 : Int32) : Option (Int32 × Wd) :=
  bd (sM_isBoat w a1) fun v1 => if v1 = 0 then (some ((-1 : Int32), w)) else (bd (sM_isIn (Int32.toInt64 a2) (0 : Int64) (1 : Int64)) fun v2 => if v2 = 0 then (some ((-2 : Int32), w)) else (if (w.2.1 90 45) = (60 : Int32) then (some ((-4 : Int32), w)) else (rd (inb (w.2.1 90 45) 60) (stG w 41 (Int32.toNatClampNeg (w.2.1 90 45)) a1) fun w3 => rd (inb (w3.2.1 90 45) 60) (stG w3 42 (Int32.toNatClampNeg (w3.2.1 90 45)) (w3.2.1 90 44)) fun w4 => jn (fun z5 => rd (inb (w4.2.1 90 45) 60) (stG w4 43 (Int32.toNatClampNeg (w4.2.1 90 45)) (vp_nar .boolean z5)) fun w7 => jn (fun z8 => rd (inb a1 8) (stG w7 5 (Int32.toNatClampNeg a1) (vp_nar .boolean z8)) fun w10 => nm (stG w10 90 45 ((w10.2.1 90 45) + (1 : Int32))) fun w11 => some (((w11.2.1 90 45) - (1 : Int32)), w11)) fun J9 => if a2 = 0 then (J9 (1 : Int32)) else (J9 (0 : Int32))) fun J6 => if a2 = (1 : Int32) then (J6 (1 : Int32)) else (J6 (0 : Int32)))))
abbrev rmX1_look : Room := { frames := 1, cells := 0, slots := 0, locals := 25 }
theorem pkX1_look : PkV yX1_look RX1 cX1_look 3 (some .int) 2 := ⟨q1149, q1150, q58, q1151, by decide +kernel⟩
set_option maxHeartbeats 4000000 in
theorem met_X1_look (l : Launch) (D : va_G) (g : Nat → ClassId) (ad : Nat → Nat) (w : Wd) (a1 : Int32) (a2 : Int32) (sz : Nat) (r : Int32) (w' : Wd) (ho : sM_look w a1 a2 = some (r, w')) : Met l yX1_look (ws_ yX1_look cX1_look 3 (some .int)) rmX1_look (va_Pc [.ref (ad 99), .int a1, .int a2] (MPre D vwCl (tysG g) (cellsM g ad w) NT sz)) (QcI D vwCl (tysG g) (cellsM g ad w') r (va_A (cellsM g ad w) sz)) 0 0 (va_A (cellsM g ad w) sz) := by
  refine met_XJ (cw := cellsM g ad) (w := w) (cc := cX1_look) (lv := [(0, .ref (ad 99)), (1, .int a1), (2, .int a2)]) pnX1 _ (Nat.le_of_ble_eq_true rfl) rfl ?_
  intro p e s m args below meth c R Q A B hN hr hsz hA hmm hRm hQ hAe
  unfold sM_look at ho
  refine j_aload_n B eX1_look_0 0 rfl ?_
  refine j_iload_n B eX1_look_1 1 rfl ?_
  refine j_callVi (As := [.int a1]) B hA (met_X1_isBoat l D g ad w a1) NT_ok pkX1_isBoat q951 0 rfl rfl rfl rfl hRm ⟨Nat.le_of_ble_eq_true rfl, Nat.le_of_ble_eq_true rfl⟩ rfl rfl (Nat.le_of_ble_eq_true rfl) ⟨Nat.zero_le _, Nat.zero_le _⟩ eX1_look_2 ho (fun v1 ho => ?_)
  refine j_if_ne B eX1_look_5 ho (fun _ ho => ?_) (fun _ ho => ?_)
  · refine j_iload_n B eX1_look_10 2 rfl ?_
    refine j_i2l B eX1_look_11 ?_
    refine j_lconst (v := 0) B eX1_look_12 rfl ?_
    refine j_lconst (v := 1) B eX1_look_13 rfl ?_
    refine j_callSi (As := [.long (Int32.toInt64 a2), .long (0 : Int64), .long (1 : Int64)]) B hA (met_X1_isIn l D _ _ _ (Int32.toInt64 a2) (0 : Int64) (1 : Int64)) NT_ok pkX1_isIn q925 rfl rfl hRm ⟨Nat.le_of_ble_eq_true rfl, Nat.le_of_ble_eq_true rfl⟩ rfl rfl (Nat.le_of_ble_eq_true rfl) ⟨Nat.zero_le _, Nat.zero_le _⟩ eX1_look_14 ho (fun v2 ho => ?_)
    refine j_if_ne B eX1_look_17 ho (fun _ ho => ?_) (fun _ ho => ?_)
    · refine j_aload_n B eX1_look_23 0 rfl ?_
      refine gfM_45 B eX1_look_24 ?_
      refine j_const B eX1_look_27 ?_
      refine j_icmp_ne B eX1_look_29 ho (fun _ ho => ?_) (fun _ ho => ?_)
      · refine j_aload_n B eX1_look_35 0 rfl ?_
        refine gfM_41 B eX1_look_36 ?_
        refine j_aload_n B eX1_look_39 0 rfl ?_
        refine gfM_45 B eX1_look_40 ?_
        refine j_iload_n B eX1_look_43 1 rfl ?_
        refine stM_41 B eX1_look_44 ho (fun w3 ho => ?_)
        refine j_aload_n B eX1_look_45 0 rfl ?_
        refine gfM_42 B eX1_look_46 ?_
        refine j_aload_n B eX1_look_49 0 rfl ?_
        refine gfM_45 B eX1_look_50 ?_
        refine j_aload_n B eX1_look_53 0 rfl ?_
        refine gfM_44 B eX1_look_54 ?_
        refine stM_42 B eX1_look_57 ho (fun w4 ho => ?_)
        refine j_aload_n B eX1_look_58 0 rfl ?_
        refine gfM_43 B eX1_look_59 ?_
        refine j_aload_n B eX1_look_62 0 rfl ?_
        refine gfM_45 B eX1_look_63 ?_
        refine j_iload_n B eX1_look_66 2 rfl ?_
        refine j_const B eX1_look_67 ?_
        refine jn1 (C := fun z5 => XJ p l e R s m args below meth c 0 0 Q A D vwCl (cellsM g ad) 3 w4 76 [(0, .ref (ad 99)), (1, .int a1), (2, .int a2)] [.int z5, .int (w4.2.1 90 45), .ref (ad 43)]) ho (fun z5 ho => ?_) (fun J6 hJ6 ho => ?_)
        · refine stM_43 B eX1_look_76 ho (fun w7 ho => ?_)
          refine j_aload_n B eX1_look_77 0 rfl ?_
          refine gfM_5 B eX1_look_78 ?_
          refine j_iload_n B eX1_look_81 1 rfl ?_
          refine j_iload_n B eX1_look_82 2 rfl ?_
          refine jn1 (C := fun z8 => XJ p l e R s m args below meth c 0 0 Q A D vwCl (cellsM g ad) 3 w7 91 [(0, .ref (ad 99))] [.int z8, .int a1, .ref (ad 5)]) ho (fun z8 ho => ?_) (fun J9 hJ9 ho => ?_)
          · refine stM_5 B eX1_look_91 ho (fun w10 ho => ?_)
            refine j_aload_n B eX1_look_92 0 rfl ?_
            refine j_dup B eX1_look_93 rfl ?_
            refine gfM_45 B eX1_look_94 ?_
            refine j_const B eX1_look_97 ?_
            refine j_iadd B eX1_look_98 ?_
            refine pfM_45 B eX1_look_99 ho (fun w11 ho => ?_)
            refine j_aload_n B eX1_look_102 0 rfl ?_
            refine gfM_45 B eX1_look_103 ?_
            refine j_const B eX1_look_106 ?_
            refine j_isub B eX1_look_107 ?_
            exact j_iretw B hr hQ eX1_look_108 ho
          · refine j_if_ne B eX1_look_83 ho (fun _ ho => ?_) (fun _ ho => ?_)
            · refine j_const B eX1_look_90 ?_
              refine j_lsub (lv' := [(0, .ref (ad 99))]) [0] rfl ?_
              exact hJ9 _ ho
            · refine j_const B eX1_look_86 ?_
              refine j_goto B eX1_look_87 ?_
              refine j_lsub (lv' := [(0, .ref (ad 99))]) [0] rfl ?_
              exact hJ9 _ ho
        · refine j_icmp_ne B eX1_look_68 ho (fun _ ho => ?_) (fun _ ho => ?_)
          · refine j_const B eX1_look_75 ?_
            exact hJ6 _ ho
          · refine j_const B eX1_look_71 ?_
            refine j_goto B eX1_look_72 ?_
            exact hJ6 _ ho
      · refine j_const B eX1_look_32 ?_
        exact j_iretw B hr hQ eX1_look_34 ho
    · refine j_const B eX1_look_20 ?_
      exact j_iretw B hr hQ eX1_look_22 ho
  · refine j_const B eX1_look_8 ?_
    exact j_iretw B hr hQ eX1_look_9 ho
def sM_broke_L115 (a1 : Int32) (w : Wd) (x4 : Int32) (J17 : Int32 → Int32 → Option (Int32)) : Int32 → Int32 → Int32 → Option (Int32) :=
  fx (fun _ _ _ => none) (fun self22 x19 x20 x21 =>
    rd (inb a1 60) (w.2.1 42 (Int32.toNatClampNeg a1)) fun v23 => if v23 ≤ x21 then (J17 x19 x20) else (rd (inb x21 30) (w.2.1 37 (Int32.toNatClampNeg x21)) fun v24 => if v24 = x4 then (if x19 = 0 then (nm x21 fun x27 => nm (x19 + (1 : Int32)) fun x28 => nm (x21 + (1 : Int32)) fun x29 => self22 x28 x27 x29) else (nm (x19 + (1 : Int32)) fun x25 => nm (x21 + (1 : Int32)) fun x26 => self22 x25 x20 x26)) else (nm (x21 + (1 : Int32)) fun x30 => self22 x19 x20 x30))) FU
def sM_broke_L42 (w : Wd) (x4 : Int32) (J7 : Int32 → Option (Int32)) : Int32 → Option (Int32) :=
  fx (fun _ => none) (fun self34 x33 =>
    if x33 < 0 then (J7 x33) else (rd (inb x33 60) (w.2.1 41 (Int32.toNatClampNeg x33)) fun v35 => if v35 = x4 then (J7 x33) else (nm (x33 + (-1 : Int32)) fun x36 => self34 x36))) FU
def sM_broke (w : Wd) (a1 : Int32) (a2 : Int32) : Option (Int32) :=
  bd (sM_isIn (Int32.toInt64 a1) (0 : Int64) (Int32.toInt64 ((w.2.1 90 45) - (1 : Int32)))) fun v1 => if v1 = 0 then (some (-1 : Int32)) else (bd (sM_isIn (Int32.toInt64 a2) (0 : Int64) (2 : Int64)) fun v2 => if v2 = 0 then (some (-1 : Int32)) else (rd (inb a1 60) (w.2.1 41 (Int32.toNatClampNeg a1)) fun v3 => nm v3 fun x4 => nm (a1 - (1 : Int32)) fun x5 => jn (fun x6 => rd (inb a1 60) (w.2.1 43 (Int32.toNatClampNeg a1)) fun v8 => if v8 = 0 then (jn (nm (0 : Int32) fun x10 => nm (-1 : Int32) fun x11 => jn (fun z12 => nm z12 fun x14 => jn (fun x15 x16 => if a2 = 0 then (some x15) else (if a2 = (1 : Int32) then (some x16) else (if 0 ≤ x16 then (rd (inb x16 30) (w.2.1 40 (Int32.toNatClampNeg x16)) fun v18 => some v18) else (some (-1 : Int32))))) fun J17 => sM_broke_L115 a1 w x4 J17 x10 x11 x14) fun J13 => if 0 ≤ x6 then (rd (inb x6 60) (w.2.1 42 (Int32.toNatClampNeg x6)) fun v31 => J13 v31) else (J13 (0 : Int32))) fun J9 => if x6 < 0 then (J9) else (rd (inb x6 60) (w.2.1 43 (Int32.toNatClampNeg x6)) fun v32 => if v32 = 0 then (some (-3 : Int32)) else (J9))) else (some (-3 : Int32))) fun J7 => sM_broke_L42 w x4 J7 x5))
abbrev rmX1_broke : Room := { frames := 1, cells := 0, slots := 0, locals := 25 }
theorem pkX1_broke : PkV yX1_broke RX1 cX1_broke 8 (some .int) 2 := ⟨q1153, q1154, q58, q1155, by decide +kernel⟩
set_option maxHeartbeats 4000000 in
theorem met_X1_broke (l : Launch) (D : va_G) (g : Nat → ClassId) (ad : Nat → Nat) (w : Wd) (a1 : Int32) (a2 : Int32) (sz : Nat) (r : Int32) (ho : sM_broke w a1 a2 = some r) : Met l yX1_broke (ws_ yX1_broke cX1_broke 8 (some .int)) rmX1_broke (va_Pc [.ref (ad 99), .int a1, .int a2] (MPre D vwCl (tysG g) (cellsM g ad w) NT sz)) (QcI D vwCl (tysG g) (cellsM g ad w) r (va_A (cellsM g ad w) sz)) 0 0 (va_A (cellsM g ad w) sz) := by
  refine met_XJ (cw := cellsM g ad) (w := w) (cc := cX1_broke) (lv := [(0, .ref (ad 99)), (1, .int a1), (2, .int a2)]) pnX1 _ (Nat.le_of_ble_eq_true rfl) rfl ?_
  intro p e s m args below meth c R Q A B hN hr hsz hA hmm hRm hQ hAe
  unfold sM_broke at ho
  refine j_iload_n B eX1_broke_0 1 rfl ?_
  refine j_i2l B eX1_broke_1 ?_
  refine j_lconst (v := 0) B eX1_broke_2 rfl ?_
  refine j_aload_n B eX1_broke_3 0 rfl ?_
  refine gfM_45 B eX1_broke_4 ?_
  refine j_const B eX1_broke_7 ?_
  refine j_isub B eX1_broke_8 ?_
  refine j_i2l B eX1_broke_9 ?_
  refine j_callSi (As := [.long (Int32.toInt64 a1), .long (0 : Int64), .long (Int32.toInt64 ((w.2.1 90 45) - (1 : Int32)))]) B hA (met_X1_isIn l D _ _ _ (Int32.toInt64 a1) (0 : Int64) (Int32.toInt64 ((w.2.1 90 45) - (1 : Int32)))) NT_ok pkX1_isIn q925 rfl rfl hRm ⟨Nat.le_of_ble_eq_true rfl, Nat.le_of_ble_eq_true rfl⟩ rfl rfl (Nat.le_of_ble_eq_true rfl) ⟨Nat.zero_le _, Nat.zero_le _⟩ eX1_broke_10 ho (fun v1 ho => ?_)
  refine j_if_eq B eX1_broke_13 ho (fun _ ho => ?_) (fun _ ho => ?_)
  · refine j_const B eX1_broke_28 ?_
    exact j_iret B hr hQ eX1_broke_29 ho
  · refine j_iload_n B eX1_broke_16 2 rfl ?_
    refine j_i2l B eX1_broke_17 ?_
    refine j_lconst (v := 0) B eX1_broke_18 rfl ?_
    refine j_ldc2 B eX1_broke_19 q1156 ?_
    refine j_callSi (As := [.long (Int32.toInt64 a2), .long (0 : Int64), .long (2 : Int64)]) B hA (met_X1_isIn l D _ _ _ (Int32.toInt64 a2) (0 : Int64) (2 : Int64)) NT_ok pkX1_isIn q925 rfl rfl hRm ⟨Nat.le_of_ble_eq_true rfl, Nat.le_of_ble_eq_true rfl⟩ rfl rfl (Nat.le_of_ble_eq_true rfl) ⟨Nat.zero_le _, Nat.zero_le _⟩ eX1_broke_22 ho (fun v2 ho => ?_)
    refine j_if_ne B eX1_broke_25 ho (fun _ ho => ?_) (fun _ ho => ?_)
    · refine j_aload_n B eX1_broke_30 0 rfl ?_
      refine gfM_41 B eX1_broke_31 ?_
      refine j_iload_n B eX1_broke_34 1 rfl ?_
      refine ldM_41 B eX1_broke_35 ho (fun v3 ho => ?_)
      refine j_istore_n (lv' := fun x4 => [(0, .ref (ad 99)), (1, .int a1), (2, .int a2), (3, .int x4)]) B eX1_broke_36 [1, 2, 3, 0] (by decide) (fun _ => rfl) ho (fun x4 ho => ?_)
      refine j_iload_n B eX1_broke_37 1 rfl ?_
      refine j_const B eX1_broke_38 ?_
      refine j_isub B eX1_broke_39 ?_
      refine j_istore (lv' := fun x5 => [(0, .ref (ad 99)), (1, .int a1), (2, .int a2), (3, .int x4), (4, .int x5)]) B eX1_broke_40 [1, 2, 3, 4, 0] (by decide) (fun _ => rfl) ho (fun x5 ho => ?_)
      refine jn1 (C := fun x6 => XJ p l e R s m args below meth c 0 0 Q A D vwCl (cellsM g ad) 8 w 64 [(0, .ref (ad 99)), (1, .int a1), (2, .int a2), (3, .int x4), (4, .int x6)] []) ho (fun x6 ho => ?_) (fun J7 hJ7 ho => ?_)
      · refine j_aload_n B eX1_broke_64 0 rfl ?_
        refine gfM_43 B eX1_broke_65 ?_
        refine j_iload_n B eX1_broke_68 1 rfl ?_
        refine ldM_43 B eX1_broke_69 ho (fun v8 ho => ?_)
        refine j_if_ne B eX1_broke_70 ho (fun _ ho => ?_) (fun _ ho => ?_)
        · refine j_const B eX1_broke_88 ?_
          exact j_iret B hr hQ eX1_broke_90 ho
        · refine j_iload B eX1_broke_73 4 rfl ?_
          refine jn0 (C := XJ p l e R s m args below meth c 0 0 Q A D vwCl (cellsM g ad) 8 w 91 [(0, .ref (ad 99)), (1, .int a1), (2, .int a2), (3, .int x4), (4, .int x6)] []) ho (fun ho => ?_) (fun J9 hJ9 ho => ?_)
          · refine j_const B eX1_broke_91 ?_
            refine j_istore (lv' := fun x10 => [(0, .ref (ad 99)), (1, .int a1), (2, .int a2), (3, .int x4), (4, .int x6), (5, .int x10)]) B eX1_broke_92 [1, 2, 3, 4, 5, 0] (by decide) (fun _ => rfl) ho (fun x10 ho => ?_)
            refine j_const B eX1_broke_94 ?_
            refine j_istore (lv' := fun x11 => [(0, .ref (ad 99)), (1, .int a1), (2, .int a2), (3, .int x4), (4, .int x6), (5, .int x10), (6, .int x11)]) B eX1_broke_95 [1, 2, 3, 4, 5, 6, 0] (by decide) (fun _ => rfl) ho (fun x11 ho => ?_)
            refine j_iload B eX1_broke_97 4 rfl ?_
            refine jn1 (C := fun z12 => XJ p l e R s m args below meth c 0 0 Q A D vwCl (cellsM g ad) 8 w 113 [(0, .ref (ad 99)), (1, .int a1), (2, .int a2), (3, .int x4), (5, .int x10), (6, .int x11)] [.int z12]) ho (fun z12 ho => ?_) (fun J13 hJ13 ho => ?_)
            · refine j_istore (lv' := fun x14 => [(0, .ref (ad 99)), (1, .int a1), (2, .int a2), (3, .int x4), (5, .int x10), (6, .int x11), (7, .int x14)]) B eX1_broke_113 [1, 2, 3, 4, 5, 6, 0] (by decide) (fun _ => rfl) ho (fun x14 ho => ?_)
              refine jn2 (C := fun x15 x16 => XJ p l e R s m args below meth c 0 0 Q A D vwCl (cellsM g ad) 8 w 158 [(0, .ref (ad 99)), (2, .int a2), (5, .int x15), (6, .int x16)] []) ho (fun x15 x16 ho => ?_) (fun J17 hJ17 ho => ?_)
              · refine j_iload_n B eX1_broke_158 1 rfl ?_
                refine j_if_ne B eX1_broke_159 ho (fun _ ho => ?_) (fun _ ho => ?_)
                · refine j_iload_n B eX1_broke_167 1 rfl ?_
                  refine j_const B eX1_broke_168 ?_
                  refine j_icmp_ne B eX1_broke_169 ho (fun _ ho => ?_) (fun _ ho => ?_)
                  · refine j_iload B eX1_broke_177 3 rfl ?_
                    refine j_if_ge B eX1_broke_179 ho (fun _ ho => ?_) (fun _ ho => ?_)
                    · refine j_aload_n B eX1_broke_186 0 rfl ?_
                      refine gfM_40 B eX1_broke_187 ?_
                      refine j_iload B eX1_broke_190 3 rfl ?_
                      refine ldM_40 B eX1_broke_192 ho (fun v18 ho => ?_)
                      exact j_iret B hr hQ eX1_broke_193 ho
                    · refine j_const B eX1_broke_182 ?_
                      refine j_goto B eX1_broke_183 ?_
                      exact j_iret B hr hQ eX1_broke_193 ho
                  · refine j_iload B eX1_broke_172 3 rfl ?_
                    refine j_goto B eX1_broke_174 ?_
                    exact j_iret B hr hQ eX1_broke_193 ho
                · refine j_iload B eX1_broke_162 2 rfl ?_
                  refine j_goto B eX1_broke_164 ?_
                  exact j_iret B hr hQ eX1_broke_193 ho
              · unfold sM_broke_L115 at ho
                refine fx3 (C := fun x19 x20 x21 => XJ p l e R s m args below meth c 0 0 Q A D vwCl (cellsM g ad) 8 w 115 [(0, .ref (ad 99)), (1, .int a1), (2, .int a2), (3, .int x4), (5, .int x19), (6, .int x20), (7, .int x21)] []) (fun self22 hself22 x19 x20 x21 ho => ?_) FU _ _ _ ho
                refine j_iload B eX1_broke_115 6 rfl ?_
                refine j_aload_n B eX1_broke_117 0 rfl ?_
                refine gfM_42 B eX1_broke_118 ?_
                refine j_iload_n B eX1_broke_121 1 rfl ?_
                refine ldM_42 B eX1_broke_122 ho (fun v23 ho => ?_)
                refine j_icmp_ge B eX1_broke_123 ho (fun _ ho => ?_) (fun _ ho => ?_)
                · refine j_lsub (lv' := [(0, .ref (ad 99)), (2, .int a2), (5, .int x19), (6, .int x20)]) [0, 2, 4, 5] rfl ?_
                  exact hJ17 _ _ ho
                · refine j_aload_n B eX1_broke_126 0 rfl ?_
                  refine gfM_37 B eX1_broke_127 ?_
                  refine j_iload B eX1_broke_130 6 rfl ?_
                  refine ldM_37 B eX1_broke_132 ho (fun v24 ho => ?_)
                  refine j_iload_n B eX1_broke_133 3 rfl ?_
                  refine j_icmp_eq B eX1_broke_134 ho (fun _ ho => ?_) (fun _ ho => ?_)
                  · refine j_iload B eX1_broke_140 4 rfl ?_
                    refine j_if_ne B eX1_broke_142 ho (fun _ ho => ?_) (fun _ ho => ?_)
                    · refine j_iinc (d := 1) (lv' := fun x25 => [(0, .ref (ad 99)), (1, .int a1), (2, .int a2), (3, .int x4), (5, .int x25), (6, .int x20), (7, .int x21)]) B eX1_broke_149 4 rfl (by decide) [1, 2, 3, 4, 0, 5, 6] (by decide) (fun _ => rfl) ho (fun x25 ho => ?_)
                      refine j_iinc (d := 1) (lv' := fun x26 => [(0, .ref (ad 99)), (1, .int a1), (2, .int a2), (3, .int x4), (5, .int x25), (6, .int x20), (7, .int x26)]) B eX1_broke_152 6 rfl (by decide) [1, 2, 3, 4, 5, 6, 0] (by decide) (fun _ => rfl) ho (fun x26 ho => ?_)
                      refine j_goto B eX1_broke_155 ?_
                      exact hself22 _ _ _ ho
                    · refine j_iload B eX1_broke_145 6 rfl ?_
                      refine j_istore (lv' := fun x27 => [(0, .ref (ad 99)), (1, .int a1), (2, .int a2), (3, .int x4), (5, .int x19), (6, .int x27), (7, .int x21)]) B eX1_broke_147 [1, 2, 3, 4, 5, 0, 6] (by decide) (fun _ => rfl) ho (fun x27 ho => ?_)
                      refine j_iinc (d := 1) (lv' := fun x28 => [(0, .ref (ad 99)), (1, .int a1), (2, .int a2), (3, .int x4), (5, .int x28), (6, .int x27), (7, .int x21)]) B eX1_broke_149 4 rfl (by decide) [1, 2, 3, 4, 0, 5, 6] (by decide) (fun _ => rfl) ho (fun x28 ho => ?_)
                      refine j_iinc (d := 1) (lv' := fun x29 => [(0, .ref (ad 99)), (1, .int a1), (2, .int a2), (3, .int x4), (5, .int x28), (6, .int x27), (7, .int x29)]) B eX1_broke_152 6 rfl (by decide) [1, 2, 3, 4, 5, 6, 0] (by decide) (fun _ => rfl) ho (fun x29 ho => ?_)
                      refine j_goto B eX1_broke_155 ?_
                      exact hself22 _ _ _ ho
                  · refine j_goto B eX1_broke_137 ?_
                    refine j_iinc (d := 1) (lv' := fun x30 => [(0, .ref (ad 99)), (1, .int a1), (2, .int a2), (3, .int x4), (5, .int x19), (6, .int x20), (7, .int x30)]) B eX1_broke_152 6 rfl (by decide) [1, 2, 3, 4, 5, 6, 0] (by decide) (fun _ => rfl) ho (fun x30 ho => ?_)
                    refine j_goto B eX1_broke_155 ?_
                    exact hself22 _ _ _ ho
            · refine j_if_ge B eX1_broke_99 ho (fun _ ho => ?_) (fun _ ho => ?_)
              · refine j_aload_n B eX1_broke_106 0 rfl ?_
                refine gfM_42 B eX1_broke_107 ?_
                refine j_iload B eX1_broke_110 4 rfl ?_
                refine ldM_42 B eX1_broke_112 ho (fun v31 ho => ?_)
                refine j_lsub (lv' := [(0, .ref (ad 99)), (1, .int a1), (2, .int a2), (3, .int x4), (5, .int x10), (6, .int x11)]) [0, 1, 2, 3, 5, 6] rfl ?_
                exact hJ13 _ ho
              · refine j_const B eX1_broke_102 ?_
                refine j_goto B eX1_broke_103 ?_
                refine j_lsub (lv' := [(0, .ref (ad 99)), (1, .int a1), (2, .int a2), (3, .int x4), (5, .int x10), (6, .int x11)]) [0, 1, 2, 3, 5, 6] rfl ?_
                exact hJ13 _ ho
          · refine j_if_lt B eX1_broke_75 ho (fun _ ho => ?_) (fun _ ho => ?_)
            · exact hJ9 ho
            · refine j_aload_n B eX1_broke_78 0 rfl ?_
              refine gfM_43 B eX1_broke_79 ?_
              refine j_iload B eX1_broke_82 4 rfl ?_
              refine ldM_43 B eX1_broke_84 ho (fun v32 ho => ?_)
              refine j_if_ne B eX1_broke_85 ho (fun _ ho => ?_) (fun _ ho => ?_)
              · exact hJ9 ho
              · refine j_const B eX1_broke_88 ?_
                exact j_iret B hr hQ eX1_broke_90 ho
      · unfold sM_broke_L42 at ho
        refine fx1 (C := fun x33 => XJ p l e R s m args below meth c 0 0 Q A D vwCl (cellsM g ad) 8 w 42 [(0, .ref (ad 99)), (1, .int a1), (2, .int a2), (3, .int x4), (4, .int x33)] []) (fun self34 hself34 x33 ho => ?_) FU _ ho
        refine j_iload B eX1_broke_42 4 rfl ?_
        refine j_if_lt B eX1_broke_44 ho (fun _ ho => ?_) (fun _ ho => ?_)
        · exact hJ7 _ ho
        · refine j_aload_n B eX1_broke_47 0 rfl ?_
          refine gfM_41 B eX1_broke_48 ?_
          refine j_iload B eX1_broke_51 4 rfl ?_
          refine ldM_41 B eX1_broke_53 ho (fun v35 ho => ?_)
          refine j_iload_n B eX1_broke_54 3 rfl ?_
          refine j_icmp_eq B eX1_broke_55 ho (fun _ ho => ?_) (fun _ ho => ?_)
          · exact hJ7 _ ho
          · refine j_iinc (d := -1) (lv' := fun x36 => [(0, .ref (ad 99)), (1, .int a1), (2, .int a2), (3, .int x4), (4, .int x36)]) B eX1_broke_58 4 rfl (by decide) [1, 2, 3, 4, 0] (by decide) (fun _ => rfl) ho (fun x36 ho => ?_)
            refine j_goto B eX1_broke_61 ?_
            exact hself34 _ ho
    · refine j_const B eX1_broke_28 ?_
      exact j_iret B hr hQ eX1_broke_29 ho
def sM_outing (w : Wd) (a1 : Int32) (a2 : Int32) : Option (Int32) :=
  bd (sM_isIn (Int32.toInt64 a1) (0 : Int64) (Int32.toInt64 ((w.2.1 90 44) - (1 : Int32)))) fun v1 => if v1 = 0 then (some (-1 : Int32)) else (if a2 = (0 : Int32) then (rd (inb a1 30) (w.2.1 37 (Int32.toNatClampNeg a1)) fun v2 => some v2) else (if a2 = (1 : Int32) then (rd (inb a1 30) (w.2.1 38 (Int32.toNatClampNeg a1)) fun v3 => some v3) else (if a2 = (2 : Int32) then (rd (inb a1 30) (w.2.1 39 (Int32.toNatClampNeg a1)) fun v4 => some v4) else (if a2 = (3 : Int32) then (rd (inb a1 30) (w.2.1 40 (Int32.toNatClampNeg a1)) fun v5 => some v5) else (some (-1 : Int32))))))
abbrev rmX1_outing : Room := { frames := 1, cells := 0, slots := 0, locals := 25 }
theorem pkX1_outing : PkV yX1_outing RX1 cX1_outing 3 (some .int) 2 := ⟨q1158, q1159, q58, q1160, by decide +kernel⟩
set_option maxHeartbeats 4000000 in
theorem met_X1_outing (l : Launch) (D : va_G) (g : Nat → ClassId) (ad : Nat → Nat) (w : Wd) (a1 : Int32) (a2 : Int32) (sz : Nat) (r : Int32) (ho : sM_outing w a1 a2 = some r) : Met l yX1_outing (ws_ yX1_outing cX1_outing 3 (some .int)) rmX1_outing (va_Pc [.ref (ad 99), .int a1, .int a2] (MPre D vwCl (tysG g) (cellsM g ad w) NT sz)) (QcI D vwCl (tysG g) (cellsM g ad w) r (va_A (cellsM g ad w) sz)) 0 0 (va_A (cellsM g ad w) sz) := by
  refine met_XJ (cw := cellsM g ad) (w := w) (cc := cX1_outing) (lv := [(0, .ref (ad 99)), (1, .int a1), (2, .int a2)]) pnX1 _ (Nat.le_of_ble_eq_true rfl) rfl ?_
  intro p e s m args below meth c R Q A B hN hr hsz hA hmm hRm hQ hAe
  unfold sM_outing at ho
  refine j_iload_n B eX1_outing_0 1 rfl ?_
  refine j_i2l B eX1_outing_1 ?_
  refine j_lconst (v := 0) B eX1_outing_2 rfl ?_
  refine j_aload_n B eX1_outing_3 0 rfl ?_
  refine gfM_44 B eX1_outing_4 ?_
  refine j_const B eX1_outing_7 ?_
  refine j_isub B eX1_outing_8 ?_
  refine j_i2l B eX1_outing_9 ?_
  refine j_callSi (As := [.long (Int32.toInt64 a1), .long (0 : Int64), .long (Int32.toInt64 ((w.2.1 90 44) - (1 : Int32)))]) B hA (met_X1_isIn l D _ _ _ (Int32.toInt64 a1) (0 : Int64) (Int32.toInt64 ((w.2.1 90 44) - (1 : Int32)))) NT_ok pkX1_isIn q925 rfl rfl hRm ⟨Nat.le_of_ble_eq_true rfl, Nat.le_of_ble_eq_true rfl⟩ rfl rfl (Nat.le_of_ble_eq_true rfl) ⟨Nat.zero_le _, Nat.zero_le _⟩ eX1_outing_10 ho (fun v1 ho => ?_)
  refine j_if_ne B eX1_outing_13 ho (fun _ ho => ?_) (fun _ ho => ?_)
  · refine j_iload_n B eX1_outing_18 2 rfl ?_
    rcases sw_e ho with ⟨hs0, ho⟩ | ⟨hs0, ho⟩
    · refine j_tswIn (tgt := 48) B eX1_outing_19 0 hs0 (by decide) (by decide) rfl (by decide) ?_
      refine j_aload_n B eX1_outing_48 0 rfl ?_
      refine gfM_37 B eX1_outing_49 ?_
      refine j_iload_n B eX1_outing_52 1 rfl ?_
      refine ldM_37 B eX1_outing_53 ho (fun v2 ho => ?_)
      exact j_iret B hr hQ eX1_outing_54 ho
    · rcases sw_e ho with ⟨hs1, ho⟩ | ⟨hs1, ho⟩
      · refine j_tswIn (tgt := 55) B eX1_outing_19 1 hs1 (by decide) (by decide) rfl (by decide) ?_
        refine j_aload_n B eX1_outing_55 0 rfl ?_
        refine gfM_38 B eX1_outing_56 ?_
        refine j_iload_n B eX1_outing_59 1 rfl ?_
        refine ldM_38 B eX1_outing_60 ho (fun v3 ho => ?_)
        exact j_iret B hr hQ eX1_outing_61 ho
      · rcases sw_e ho with ⟨hs2, ho⟩ | ⟨hs2, ho⟩
        · refine j_tswIn (tgt := 62) B eX1_outing_19 2 hs2 (by decide) (by decide) rfl (by decide) ?_
          refine j_aload_n B eX1_outing_62 0 rfl ?_
          refine gfM_39 B eX1_outing_63 ?_
          refine j_iload_n B eX1_outing_66 1 rfl ?_
          refine ldM_39 B eX1_outing_67 ho (fun v4 ho => ?_)
          exact j_iret B hr hQ eX1_outing_68 ho
        · rcases sw_e ho with ⟨hs3, ho⟩ | ⟨hs3, ho⟩
          · refine j_tswIn (tgt := 69) B eX1_outing_19 3 hs3 (by decide) (by decide) rfl (by decide) ?_
            refine j_aload_n B eX1_outing_69 0 rfl ?_
            refine gfM_40 B eX1_outing_70 ?_
            refine j_iload_n B eX1_outing_73 1 rfl ?_
            refine ldM_40 B eX1_outing_74 ho (fun v5 ho => ?_)
            exact j_iret B hr hQ eX1_outing_75 ho
          · refine j_tswOut (tgt := 76) B eX1_outing_19 (by have a0 := lv_neT hs0 (a := 0) (by decide); have a1 := lv_neT hs1 (a := 1) (by decide); have a2 := lv_neT hs2 (a := 2) (by decide); have a3 := lv_neT hs3 (a := 3) (by decide); omega) (by decide) ?_
            refine j_const B eX1_outing_76 ?_
            exact j_iret B hr hQ eX1_outing_77 ho
  · refine j_const B eX1_outing_16 ?_
    exact j_iret B hr hQ eX1_outing_17 ho
def sM_heat (w : Wd) (a1 : Int32) (a2 : Int32) : Option (Int32 × Wd) :=
  bd (sM_isBoat w a1) fun v1 => if v1 = 0 then (some ((-1 : Int32), w)) else (bd (sM_isIn (Int32.toInt64 a2) (0 : Int64) (1439 : Int64)) fun v2 => if v2 = 0 then (some ((-2 : Int32), w)) else (if (w.2.1 90 48) = (20 : Int32) then (some ((-4 : Int32), w)) else (rd (inb (w.2.1 90 48) 20) (stG w 46 (Int32.toNatClampNeg (w.2.1 90 48)) a1) fun w3 => rd (inb (w3.2.1 90 48) 20) (stG w3 47 (Int32.toNatClampNeg (w3.2.1 90 48)) a2) fun w4 => nm (stG w4 90 48 ((w4.2.1 90 48) + (1 : Int32))) fun w5 => some (((w5.2.1 90 48) - (1 : Int32)), w5))))
abbrev rmX1_heat : Room := { frames := 1, cells := 0, slots := 0, locals := 25 }
theorem pkX1_heat : PkV yX1_heat RX1 cX1_heat 3 (some .int) 2 := ⟨q1162, q1163, q58, q1164, by decide +kernel⟩
set_option maxHeartbeats 4000000 in
theorem met_X1_heat (l : Launch) (D : va_G) (g : Nat → ClassId) (ad : Nat → Nat) (w : Wd) (a1 : Int32) (a2 : Int32) (sz : Nat) (r : Int32) (w' : Wd) (ho : sM_heat w a1 a2 = some (r, w')) : Met l yX1_heat (ws_ yX1_heat cX1_heat 3 (some .int)) rmX1_heat (va_Pc [.ref (ad 99), .int a1, .int a2] (MPre D vwCl (tysG g) (cellsM g ad w) NT sz)) (QcI D vwCl (tysG g) (cellsM g ad w') r (va_A (cellsM g ad w) sz)) 0 0 (va_A (cellsM g ad w) sz) := by
  refine met_XJ (cw := cellsM g ad) (w := w) (cc := cX1_heat) (lv := [(0, .ref (ad 99)), (1, .int a1), (2, .int a2)]) pnX1 _ (Nat.le_of_ble_eq_true rfl) rfl ?_
  intro p e s m args below meth c R Q A B hN hr hsz hA hmm hRm hQ hAe
  unfold sM_heat at ho
  refine j_aload_n B eX1_heat_0 0 rfl ?_
  refine j_iload_n B eX1_heat_1 1 rfl ?_
  refine j_callVi (As := [.int a1]) B hA (met_X1_isBoat l D g ad w a1) NT_ok pkX1_isBoat q951 0 rfl rfl rfl rfl hRm ⟨Nat.le_of_ble_eq_true rfl, Nat.le_of_ble_eq_true rfl⟩ rfl rfl (Nat.le_of_ble_eq_true rfl) ⟨Nat.zero_le _, Nat.zero_le _⟩ eX1_heat_2 ho (fun v1 ho => ?_)
  refine j_if_ne B eX1_heat_5 ho (fun _ ho => ?_) (fun _ ho => ?_)
  · refine j_iload_n B eX1_heat_10 2 rfl ?_
    refine j_i2l B eX1_heat_11 ?_
    refine j_lconst (v := 0) B eX1_heat_12 rfl ?_
    refine j_ldc2 B eX1_heat_13 q1165 ?_
    refine j_callSi (As := [.long (Int32.toInt64 a2), .long (0 : Int64), .long (1439 : Int64)]) B hA (met_X1_isIn l D _ _ _ (Int32.toInt64 a2) (0 : Int64) (1439 : Int64)) NT_ok pkX1_isIn q925 rfl rfl hRm ⟨Nat.le_of_ble_eq_true rfl, Nat.le_of_ble_eq_true rfl⟩ rfl rfl (Nat.le_of_ble_eq_true rfl) ⟨Nat.zero_le _, Nat.zero_le _⟩ eX1_heat_16 ho (fun v2 ho => ?_)
    refine j_if_ne B eX1_heat_19 ho (fun _ ho => ?_) (fun _ ho => ?_)
    · refine j_aload_n B eX1_heat_25 0 rfl ?_
      refine gfM_48 B eX1_heat_26 ?_
      refine j_const B eX1_heat_29 ?_
      refine j_icmp_ne B eX1_heat_31 ho (fun _ ho => ?_) (fun _ ho => ?_)
      · refine j_aload_n B eX1_heat_37 0 rfl ?_
        refine gfM_46 B eX1_heat_38 ?_
        refine j_aload_n B eX1_heat_41 0 rfl ?_
        refine gfM_48 B eX1_heat_42 ?_
        refine j_iload_n B eX1_heat_45 1 rfl ?_
        refine stM_46 B eX1_heat_46 ho (fun w3 ho => ?_)
        refine j_aload_n B eX1_heat_47 0 rfl ?_
        refine gfM_47 B eX1_heat_48 ?_
        refine j_aload_n B eX1_heat_51 0 rfl ?_
        refine gfM_48 B eX1_heat_52 ?_
        refine j_iload_n B eX1_heat_55 2 rfl ?_
        refine stM_47 B eX1_heat_56 ho (fun w4 ho => ?_)
        refine j_aload_n B eX1_heat_57 0 rfl ?_
        refine j_dup B eX1_heat_58 rfl ?_
        refine gfM_48 B eX1_heat_59 ?_
        refine j_const B eX1_heat_62 ?_
        refine j_iadd B eX1_heat_63 ?_
        refine pfM_48 B eX1_heat_64 ho (fun w5 ho => ?_)
        refine j_aload_n B eX1_heat_67 0 rfl ?_
        refine gfM_48 B eX1_heat_68 ?_
        refine j_const B eX1_heat_71 ?_
        refine j_isub B eX1_heat_72 ?_
        exact j_iretw B hr hQ eX1_heat_73 ho
      · refine j_const B eX1_heat_34 ?_
        exact j_iretw B hr hQ eX1_heat_36 ho
    · refine j_const B eX1_heat_22 ?_
      exact j_iretw B hr hQ eX1_heat_24 ho
  · refine j_const B eX1_heat_8 ?_
    exact j_iretw B hr hQ eX1_heat_9 ho
def sM_near (w : Wd) (a1 : Int32) : Option (Int32 × Wd) :=
  bd (sM_isIn (Int32.toInt64 a1) (0 : Int64) (999 : Int64)) fun v1 => if v1 = 0 then (some ((-2 : Int32), w)) else (nm (w.2.1 90 49) fun x2 => nm (stG w 90 49 a1) fun w3 => some (x2, w3))
abbrev rmX1_near : Room := { frames := 1, cells := 0, slots := 0, locals := 25 }
theorem pkX1_near : PkV yX1_near RX1 cX1_near 3 (some .int) 1 := ⟨q1167, q1168, q58, q1169, by decide +kernel⟩
set_option maxHeartbeats 4000000 in
theorem met_X1_near (l : Launch) (D : va_G) (g : Nat → ClassId) (ad : Nat → Nat) (w : Wd) (a1 : Int32) (sz : Nat) (r : Int32) (w' : Wd) (ho : sM_near w a1 = some (r, w')) : Met l yX1_near (ws_ yX1_near cX1_near 3 (some .int)) rmX1_near (va_Pc [.ref (ad 99), .int a1] (MPre D vwCl (tysG g) (cellsM g ad w) NT sz)) (QcI D vwCl (tysG g) (cellsM g ad w') r (va_A (cellsM g ad w) sz)) 0 0 (va_A (cellsM g ad w) sz) := by
  refine met_XJ (cw := cellsM g ad) (w := w) (cc := cX1_near) (lv := [(0, .ref (ad 99)), (1, .int a1)]) pnX1 _ (Nat.le_of_ble_eq_true rfl) rfl ?_
  intro p e s m args below meth c R Q A B hN hr hsz hA hmm hRm hQ hAe
  unfold sM_near at ho
  refine j_iload_n B eX1_near_0 1 rfl ?_
  refine j_i2l B eX1_near_1 ?_
  refine j_lconst (v := 0) B eX1_near_2 rfl ?_
  refine j_ldc2 B eX1_near_3 q980 ?_
  refine j_callSi (As := [.long (Int32.toInt64 a1), .long (0 : Int64), .long (999 : Int64)]) B hA (met_X1_isIn l D _ _ _ (Int32.toInt64 a1) (0 : Int64) (999 : Int64)) NT_ok pkX1_isIn q925 rfl rfl hRm ⟨Nat.le_of_ble_eq_true rfl, Nat.le_of_ble_eq_true rfl⟩ rfl rfl (Nat.le_of_ble_eq_true rfl) ⟨Nat.zero_le _, Nat.zero_le _⟩ eX1_near_6 ho (fun v1 ho => ?_)
  refine j_if_ne B eX1_near_9 ho (fun _ ho => ?_) (fun _ ho => ?_)
  · refine j_aload_n B eX1_near_15 0 rfl ?_
    refine gfM_49 B eX1_near_16 ?_
    refine j_istore_n (lv' := fun x2 => [(0, .ref (ad 99)), (1, .int a1), (2, .int x2)]) B eX1_near_19 [1, 2, 0] (by decide) (fun _ => rfl) ho (fun x2 ho => ?_)
    refine j_aload_n B eX1_near_20 0 rfl ?_
    refine j_iload_n B eX1_near_21 1 rfl ?_
    refine pfM_49 B eX1_near_22 ho (fun w3 ho => ?_)
    refine j_iload_n B eX1_near_25 2 rfl ?_
    exact j_iretw B hr hQ eX1_near_26 ho
  · refine j_const B eX1_near_12 ?_
    exact j_iretw B hr hQ eX1_near_14 ho
def sM_clash (w : Wd) (a1 : Int32) (a2 : Int32) (a3 : Int32) : Option (Int32) :=
  rd (inb a3 20) (w.2.1 47 (Int32.toNatClampNeg a3)) fun v1 => jn (fun z2 => nm z2 fun x4 => if (w.2.1 90 49) ≤ x4 then (some (0 : Int32)) else (rd (inb a1 20) (w.2.1 46 (Int32.toNatClampNeg a1)) fun v5 => rd (inb a3 20) (w.2.1 46 (Int32.toNatClampNeg a3)) fun v6 => if v5 = v6 then (some (1 : Int32)) else (rd (inb a1 20) (w.2.1 46 (Int32.toNatClampNeg a1)) fun v7 => bd (sM_whoIn w v7) fun v8 => rd (inb a3 20) (w.2.1 46 (Int32.toNatClampNeg a3)) fun v9 => bd (sM_whoIn w v9) fun v10 => if (v8 &&& v10) = 0 then (some (0 : Int32)) else (some (1 : Int32))))) fun J3 => if v1 ≤ a2 then (rd (inb a3 20) (w.2.1 47 (Int32.toNatClampNeg a3)) fun v11 => J3 (a2 - v11)) else (rd (inb a3 20) (w.2.1 47 (Int32.toNatClampNeg a3)) fun v12 => J3 (v12 - a2))
abbrev rmX1_clash : Room := { frames := 1, cells := 0, slots := 0, locals := 23 }
theorem pkX1_clash : PkV yX1_clash RX1 cX1_clash 5 (some .boolean) 3 := ⟨q1176, qs54, q58, q1177, by decide +kernel⟩
set_option maxHeartbeats 4000000 in
theorem met_X1_clash (l : Launch) (D : va_G) (g : Nat → ClassId) (ad : Nat → Nat) (w : Wd) (a1 : Int32) (a2 : Int32) (a3 : Int32) (sz : Nat) (r : Int32) (ho : sM_clash w a1 a2 a3 = some r) : Met l yX1_clash (ws_ yX1_clash cX1_clash 5 (some .boolean)) rmX1_clash (va_Pc [.ref (ad 99), .int a1, .int a2, .int a3] (MPre D vwCl (tysG g) (cellsM g ad w) NT sz)) (QcI D vwCl (tysG g) (cellsM g ad w) r (va_A (cellsM g ad w) sz)) 0 0 (va_A (cellsM g ad w) sz) := by
  refine met_XJ (cw := cellsM g ad) (w := w) (cc := cX1_clash) (lv := [(0, .ref (ad 99)), (1, .int a1), (2, .int a2), (3, .int a3)]) pnX1 _ (Nat.le_of_ble_eq_true rfl) rfl ?_
  intro p e s m args below meth c R Q A B hN hr hsz hA hmm hRm hQ hAe
  unfold sM_clash at ho
  refine j_iload_n B eX1_clash_0 2 rfl ?_
  refine j_aload_n B eX1_clash_1 0 rfl ?_
  refine gfM_47 B eX1_clash_2 ?_
  refine j_iload_n B eX1_clash_5 3 rfl ?_
  refine ldM_47 B eX1_clash_6 ho (fun v1 ho => ?_)
  refine jn1 (C := fun z2 => XJ p l e R s m args below meth c 0 0 Q A D vwCl (cellsM g ad) 5 w 29 [(0, .ref (ad 99)), (1, .int a1), (3, .int a3)] [.int z2]) ho (fun z2 ho => ?_) (fun J3 hJ3 ho => ?_)
  · refine j_istore (lv' := fun x4 => [(0, .ref (ad 99)), (1, .int a1), (3, .int a3), (4, .int x4)]) B eX1_clash_29 [1, 2, 3, 0] (by decide) (fun _ => rfl) ho (fun x4 ho => ?_)
    refine j_iload B eX1_clash_31 3 rfl ?_
    refine j_aload_n B eX1_clash_33 0 rfl ?_
    refine gfM_49 B eX1_clash_34 ?_
    refine j_icmp_ge B eX1_clash_37 ho (fun _ ho => ?_) (fun _ ho => ?_)
    · refine j_const B eX1_clash_83 ?_
      exact j_zret B hr rfl hQ eX1_clash_84 ho
    · refine j_aload_n B eX1_clash_40 0 rfl ?_
      refine gfM_46 B eX1_clash_41 ?_
      refine j_iload_n B eX1_clash_44 1 rfl ?_
      refine ldM_46 B eX1_clash_45 ho (fun v5 ho => ?_)
      refine j_aload_n B eX1_clash_46 0 rfl ?_
      refine gfM_46 B eX1_clash_47 ?_
      refine j_iload_n B eX1_clash_50 2 rfl ?_
      refine ldM_46 B eX1_clash_51 ho (fun v6 ho => ?_)
      refine j_icmp_eq B eX1_clash_52 ho (fun _ ho => ?_) (fun _ ho => ?_)
      · refine j_const B eX1_clash_79 ?_
        refine j_goto B eX1_clash_80 ?_
        exact j_zret B hr rfl hQ eX1_clash_84 ho
      · refine j_aload_n B eX1_clash_55 0 rfl ?_
        refine j_aload_n B eX1_clash_56 0 rfl ?_
        refine gfM_46 B eX1_clash_57 ?_
        refine j_iload_n B eX1_clash_60 1 rfl ?_
        refine ldM_46 B eX1_clash_61 ho (fun v7 ho => ?_)
        refine j_callVi (As := [.int v7]) B hA (met_X1_whoIn l D g ad w v7) NT_ok pkX1_whoIn q1144 0 rfl rfl rfl rfl hRm ⟨Nat.le_of_ble_eq_true rfl, Nat.le_of_ble_eq_true rfl⟩ rfl rfl (Nat.le_of_ble_eq_true rfl) ⟨Nat.zero_le _, Nat.zero_le _⟩ eX1_clash_62 ho (fun v8 ho => ?_)
        refine j_aload_n B eX1_clash_65 0 rfl ?_
        refine j_aload_n B eX1_clash_66 0 rfl ?_
        refine gfM_46 B eX1_clash_67 ?_
        refine j_iload_n B eX1_clash_70 2 rfl ?_
        refine ldM_46 B eX1_clash_71 ho (fun v9 ho => ?_)
        refine j_callVi (As := [.int v9]) B hA (met_X1_whoIn l D g ad w v9) NT_ok pkX1_whoIn q1144 0 rfl rfl rfl rfl hRm ⟨Nat.le_of_ble_eq_true rfl, Nat.le_of_ble_eq_true rfl⟩ rfl rfl (Nat.le_of_ble_eq_true rfl) ⟨Nat.zero_le _, Nat.zero_le _⟩ eX1_clash_72 ho (fun v10 ho => ?_)
        refine j_iand B eX1_clash_75 ?_
        refine j_if_eq B eX1_clash_76 ho (fun _ ho => ?_) (fun _ ho => ?_)
        · refine j_const B eX1_clash_83 ?_
          exact j_zret B hr rfl hQ eX1_clash_84 ho
        · refine j_const B eX1_clash_79 ?_
          refine j_goto B eX1_clash_80 ?_
          exact j_zret B hr rfl hQ eX1_clash_84 ho
  · refine j_icmp_ge B eX1_clash_7 ho (fun _ ho => ?_) (fun _ ho => ?_)
    · refine j_iload_n B eX1_clash_21 2 rfl ?_
      refine j_aload_n B eX1_clash_22 0 rfl ?_
      refine gfM_47 B eX1_clash_23 ?_
      refine j_iload_n B eX1_clash_26 3 rfl ?_
      refine ldM_47 B eX1_clash_27 ho (fun v11 ho => ?_)
      refine j_isub B eX1_clash_28 ?_
      refine j_lsub (lv' := [(0, .ref (ad 99)), (1, .int a1), (3, .int a3)]) [0, 1, 3] rfl ?_
      exact hJ3 _ ho
    · refine j_aload_n B eX1_clash_10 0 rfl ?_
      refine gfM_47 B eX1_clash_11 ?_
      refine j_iload_n B eX1_clash_14 3 rfl ?_
      refine ldM_47 B eX1_clash_15 ho (fun v12 ho => ?_)
      refine j_iload_n B eX1_clash_16 2 rfl ?_
      refine j_isub B eX1_clash_17 ?_
      refine j_goto B eX1_clash_18 ?_
      refine j_lsub (lv' := [(0, .ref (ad 99)), (1, .int a1), (3, .int a3)]) [0, 1, 3] rfl ?_
      exact hJ3 _ ho
def sM_clashes_L14 (w : Wd) (x4 : Int32) (self5 : Int32 → Int32 → Option (Int32)) : Int32 → Int32 → Option (Int32) :=
  fx (fun _ _ => none) (fun self9 x7 x8 =>
    if x4 ≤ x8 then (nm (x4 + (1 : Int32)) fun x10 => self5 x7 x10) else (rd (inb x4 20) (w.2.1 47 (Int32.toNatClampNeg x4)) fun v11 => bd (sM_clash w x4 v11 x8) fun v12 => jn (fun z13 => nm (x7 + z13) fun x15 => nm (x8 + (1 : Int32)) fun x16 => self9 x15 x16) fun J14 => if v12 = 0 then (J14 (0 : Int32)) else (J14 (1 : Int32)))) FU
def sM_clashes_L4 (w : Wd) : Int32 → Int32 → Option (Int32) :=
  fx (fun _ _ => none) (fun self5 x3 x4 =>
    if (w.2.1 90 48) ≤ x4 then (some x3) else (nm (0 : Int32) fun x6 => sM_clashes_L14 w x4 self5 x3 x6)) FU
def sM_clashes (w : Wd)  : Option (Int32) :=
  nm (0 : Int32) fun x1 => nm (0 : Int32) fun x2 => sM_clashes_L4 w x1 x2
abbrev rmX1_clashes : Room := { frames := 2, cells := 0, slots := 0, locals := 47 }
theorem pkX1_clashes : PkV yX1_clashes RX1 cX1_clashes 4 (some .int) 0 := ⟨q1171, q1172, q58, q1173, by decide +kernel⟩
set_option maxHeartbeats 4000000 in
theorem met_X1_clashes (l : Launch) (D : va_G) (g : Nat → ClassId) (ad : Nat → Nat) (w : Wd)  (sz : Nat) (r : Int32) (ho : sM_clashes w = some r) : Met l yX1_clashes (ws_ yX1_clashes cX1_clashes 4 (some .int)) rmX1_clashes (va_Pc [.ref (ad 99)] (MPre D vwCl (tysG g) (cellsM g ad w) NT sz)) (QcI D vwCl (tysG g) (cellsM g ad w) r (va_A (cellsM g ad w) sz)) 0 0 (va_A (cellsM g ad w) sz) := by
  refine met_XJ (cw := cellsM g ad) (w := w) (cc := cX1_clashes) (lv := [(0, .ref (ad 99))]) pnX1 _ (Nat.le_of_ble_eq_true rfl) rfl ?_
  intro p e s m args below meth c R Q A B hN hr hsz hA hmm hRm hQ hAe
  unfold sM_clashes at ho
  refine j_const B eX1_clashes_0 ?_
  refine j_istore_n (lv' := fun x1 => [(0, .ref (ad 99)), (1, .int x1)]) B eX1_clashes_1 [1, 0] (by decide) (fun _ => rfl) ho (fun x1 ho => ?_)
  refine j_const B eX1_clashes_2 ?_
  refine j_istore_n (lv' := fun x2 => [(0, .ref (ad 99)), (1, .int x1), (2, .int x2)]) B eX1_clashes_3 [1, 2, 0] (by decide) (fun _ => rfl) ho (fun x2 ho => ?_)
  unfold sM_clashes_L4 at ho
  refine fx2 (C := fun x3 x4 => XJ p l e R s m args below meth c 0 0 Q A D vwCl (cellsM g ad) 4 w 4 [(0, .ref (ad 99)), (1, .int x3), (2, .int x4)] []) (fun self5 hself5 x3 x4 ho => ?_) FU _ _ ho
  refine j_iload_n B eX1_clashes_4 2 rfl ?_
  refine j_aload_n B eX1_clashes_5 0 rfl ?_
  refine gfM_48 B eX1_clashes_6 ?_
  refine j_icmp_ge B eX1_clashes_9 ho (fun _ ho => ?_) (fun _ ho => ?_)
  · refine j_iload_n B eX1_clashes_54 1 rfl ?_
    exact j_iret B hr hQ eX1_clashes_55 ho
  · refine j_const B eX1_clashes_12 ?_
    refine j_istore_n (lv' := fun x6 => [(0, .ref (ad 99)), (1, .int x3), (2, .int x4), (3, .int x6)]) B eX1_clashes_13 [1, 2, 3, 0] (by decide) (fun _ => rfl) ho (fun x6 ho => ?_)
    unfold sM_clashes_L14 at ho
    refine fx2 (C := fun x7 x8 => XJ p l e R s m args below meth c 0 0 Q A D vwCl (cellsM g ad) 4 w 14 [(0, .ref (ad 99)), (1, .int x7), (2, .int x4), (3, .int x8)] []) (fun self9 hself9 x7 x8 ho => ?_) FU _ _ ho
    refine j_iload_n B eX1_clashes_14 3 rfl ?_
    refine j_iload_n B eX1_clashes_15 2 rfl ?_
    refine j_icmp_ge B eX1_clashes_16 ho (fun _ ho => ?_) (fun _ ho => ?_)
    · refine j_iinc (d := 1) (lv' := fun x10 => [(0, .ref (ad 99)), (1, .int x7), (2, .int x10)]) B eX1_clashes_48 2 rfl (by decide) [1, 2, 0] (by decide) (fun _ => rfl) ho (fun x10 ho => ?_)
      refine j_goto B eX1_clashes_51 ?_
      exact hself5 _ _ ho
    · refine j_iload_n B eX1_clashes_19 1 rfl ?_
      refine j_aload_n B eX1_clashes_20 0 rfl ?_
      refine j_iload_n B eX1_clashes_21 2 rfl ?_
      refine j_aload_n B eX1_clashes_22 0 rfl ?_
      refine gfM_47 B eX1_clashes_23 ?_
      refine j_iload_n B eX1_clashes_26 2 rfl ?_
      refine ldM_47 B eX1_clashes_27 ho (fun v11 ho => ?_)
      refine j_iload_n B eX1_clashes_28 3 rfl ?_
      refine j_callVi (As := [.int x4, .int v11, .int x8]) B hA (met_X1_clash l D g ad w x4 v11 x8) NT_ok pkX1_clash q1174 0 rfl rfl rfl rfl hRm ⟨Nat.le_of_ble_eq_true rfl, Nat.le_of_ble_eq_true rfl⟩ rfl rfl (Nat.le_of_ble_eq_true rfl) ⟨Nat.zero_le _, Nat.zero_le _⟩ eX1_clashes_29 ho (fun v12 ho => ?_)
      refine jn1 (C := fun z13 => XJ p l e R s m args below meth c 0 0 Q A D vwCl (cellsM g ad) 4 w 40 [(0, .ref (ad 99)), (2, .int x4), (3, .int x8)] [.int z13, .int x7]) ho (fun z13 ho => ?_) (fun J14 hJ14 ho => ?_)
      · refine j_iadd B eX1_clashes_40 ?_
        refine j_istore_n (lv' := fun x15 => [(0, .ref (ad 99)), (1, .int x15), (2, .int x4), (3, .int x8)]) B eX1_clashes_41 [1, 0, 2, 3] (by decide) (fun _ => rfl) ho (fun x15 ho => ?_)
        refine j_iinc (d := 1) (lv' := fun x16 => [(0, .ref (ad 99)), (1, .int x15), (2, .int x4), (3, .int x16)]) B eX1_clashes_42 3 rfl (by decide) [1, 2, 3, 0] (by decide) (fun _ => rfl) ho (fun x16 ho => ?_)
        refine j_goto B eX1_clashes_45 ?_
        exact hself9 _ _ ho
      · refine j_if_eq B eX1_clashes_32 ho (fun _ ho => ?_) (fun _ ho => ?_)
        · refine j_const B eX1_clashes_39 ?_
          refine j_lsub (lv' := [(0, .ref (ad 99)), (2, .int x4), (3, .int x8)]) [0, 2, 3] rfl ?_
          exact hJ14 _ ho
        · refine j_const B eX1_clashes_35 ?_
          refine j_goto B eX1_clashes_36 ?_
          refine j_lsub (lv' := [(0, .ref (ad 99)), (2, .int x4), (3, .int x8)]) [0, 2, 3] rfl ?_
          exact hJ14 _ ho
def sM_shift_L37 (a1 : Int32) (w : Wd) (x4 : Int32) (J9 : Int32 → Option (Int32)) : Int32 → Int32 → Option (Int32) :=
  fx (fun _ _ => none) (fun self13 x11 x12 =>
    if (w.2.1 90 48) ≤ x12 then (J9 x11) else (if x11 = 0 then (J9 x11) else (jn (fun z14 => nm z14 fun x16 => nm (x12 + (1 : Int32)) fun x17 => self13 x16 x17) fun J15 => if x12 = a1 then (J15 (1 : Int32)) else (bd (sM_clash w a1 x4 x12) fun v18 => if v18 = 0 then (J15 (1 : Int32)) else (J15 (0 : Int32)))))) FU
def sM_shift_L25 (a1 : Int32) (w : Wd) : Int32 → Option (Int32) :=
  fx (fun _ => none) (fun self5 x4 =>
    if (1440 : Int32) ≤ x4 then (some (-3 : Int32)) else (nm (1 : Int32) fun x6 => nm (0 : Int32) fun x7 => jn (fun x8 => if x8 = 0 then (nm (x4 + (1 : Int32)) fun x10 => self5 x10) else (some x4)) fun J9 => sM_shift_L37 a1 w x4 J9 x6 x7)) FU
def sM_shift (w : Wd) (a1 : Int32) : Option (Int32) :=
  bd (sM_isIn (Int32.toInt64 a1) (0 : Int64) (Int32.toInt64 ((w.2.1 90 48) - (1 : Int32)))) fun v1 => if v1 = 0 then (some (-1 : Int32)) else (rd (inb a1 20) (w.2.1 47 (Int32.toNatClampNeg a1)) fun v2 => nm v2 fun x3 => sM_shift_L25 a1 w x3)
abbrev rmX1_shift : Room := { frames := 2, cells := 0, slots := 0, locals := 47 }
theorem pkX1_shift : PkV yX1_shift RX1 cX1_shift 5 (some .int) 1 := ⟨q1179, q1180, q58, q1181, by decide +kernel⟩
set_option maxHeartbeats 4000000 in
theorem met_X1_shift (l : Launch) (D : va_G) (g : Nat → ClassId) (ad : Nat → Nat) (w : Wd) (a1 : Int32) (sz : Nat) (r : Int32) (ho : sM_shift w a1 = some r) : Met l yX1_shift (ws_ yX1_shift cX1_shift 5 (some .int)) rmX1_shift (va_Pc [.ref (ad 99), .int a1] (MPre D vwCl (tysG g) (cellsM g ad w) NT sz)) (QcI D vwCl (tysG g) (cellsM g ad w) r (va_A (cellsM g ad w) sz)) 0 0 (va_A (cellsM g ad w) sz) := by
  refine met_XJ (cw := cellsM g ad) (w := w) (cc := cX1_shift) (lv := [(0, .ref (ad 99)), (1, .int a1)]) pnX1 _ (Nat.le_of_ble_eq_true rfl) rfl ?_
  intro p e s m args below meth c R Q A B hN hr hsz hA hmm hRm hQ hAe
  unfold sM_shift at ho
  refine j_iload_n B eX1_shift_0 1 rfl ?_
  refine j_i2l B eX1_shift_1 ?_
  refine j_lconst (v := 0) B eX1_shift_2 rfl ?_
  refine j_aload_n B eX1_shift_3 0 rfl ?_
  refine gfM_48 B eX1_shift_4 ?_
  refine j_const B eX1_shift_7 ?_
  refine j_isub B eX1_shift_8 ?_
  refine j_i2l B eX1_shift_9 ?_
  refine j_callSi (As := [.long (Int32.toInt64 a1), .long (0 : Int64), .long (Int32.toInt64 ((w.2.1 90 48) - (1 : Int32)))]) B hA (met_X1_isIn l D _ _ _ (Int32.toInt64 a1) (0 : Int64) (Int32.toInt64 ((w.2.1 90 48) - (1 : Int32)))) NT_ok pkX1_isIn q925 rfl rfl hRm ⟨Nat.le_of_ble_eq_true rfl, Nat.le_of_ble_eq_true rfl⟩ rfl rfl (Nat.le_of_ble_eq_true rfl) ⟨Nat.zero_le _, Nat.zero_le _⟩ eX1_shift_10 ho (fun v1 ho => ?_)
  refine j_if_ne B eX1_shift_13 ho (fun _ ho => ?_) (fun _ ho => ?_)
  · refine j_aload_n B eX1_shift_18 0 rfl ?_
    refine gfM_47 B eX1_shift_19 ?_
    refine j_iload_n B eX1_shift_22 1 rfl ?_
    refine ldM_47 B eX1_shift_23 ho (fun v2 ho => ?_)
    refine j_istore_n (lv' := fun x3 => [(0, .ref (ad 99)), (1, .int a1), (2, .int x3)]) B eX1_shift_24 [1, 2, 0] (by decide) (fun _ => rfl) ho (fun x3 ho => ?_)
    unfold sM_shift_L25 at ho
    refine fx1 (C := fun x4 => XJ p l e R s m args below meth c 0 0 Q A D vwCl (cellsM g ad) 5 w 25 [(0, .ref (ad 99)), (1, .int a1), (2, .int x4)] []) (fun self5 hself5 x4 ho => ?_) FU _ ho
    refine j_iload_n B eX1_shift_25 2 rfl ?_
    refine j_const B eX1_shift_26 ?_
    refine j_icmp_ge B eX1_shift_29 ho (fun _ ho => ?_) (fun _ ho => ?_)
    · refine j_const B eX1_shift_91 ?_
      exact j_iret B hr hQ eX1_shift_93 ho
    · refine j_const B eX1_shift_32 ?_
      refine j_istore_n (lv' := fun x6 => [(0, .ref (ad 99)), (1, .int a1), (2, .int x4), (3, .int x6)]) B eX1_shift_33 [1, 2, 3, 0] (by decide) (fun _ => rfl) ho (fun x6 ho => ?_)
      refine j_const B eX1_shift_34 ?_
      refine j_istore (lv' := fun x7 => [(0, .ref (ad 99)), (1, .int a1), (2, .int x4), (3, .int x6), (4, .int x7)]) B eX1_shift_35 [1, 2, 3, 4, 0] (by decide) (fun _ => rfl) ho (fun x7 ho => ?_)
      refine jn1 (C := fun x8 => XJ p l e R s m args below meth c 0 0 Q A D vwCl (cellsM g ad) 5 w 79 [(0, .ref (ad 99)), (1, .int a1), (2, .int x4), (3, .int x8)] []) ho (fun x8 ho => ?_) (fun J9 hJ9 ho => ?_)
      · refine j_iload_n B eX1_shift_79 3 rfl ?_
        refine j_if_eq B eX1_shift_80 ho (fun _ ho => ?_) (fun _ ho => ?_)
        · refine j_iinc (d := 1) (lv' := fun x10 => [(0, .ref (ad 99)), (1, .int a1), (2, .int x10)]) B eX1_shift_85 2 rfl (by decide) [1, 2, 0] (by decide) (fun _ => rfl) ho (fun x10 ho => ?_)
          refine j_goto B eX1_shift_88 ?_
          exact hself5 _ ho
        · refine j_iload_n B eX1_shift_83 2 rfl ?_
          exact j_iret B hr hQ eX1_shift_84 ho
      · unfold sM_shift_L37 at ho
        refine fx2 (C := fun x11 x12 => XJ p l e R s m args below meth c 0 0 Q A D vwCl (cellsM g ad) 5 w 37 [(0, .ref (ad 99)), (1, .int a1), (2, .int x4), (3, .int x11), (4, .int x12)] []) (fun self13 hself13 x11 x12 ho => ?_) FU _ _ ho
        refine j_iload B eX1_shift_37 4 rfl ?_
        refine j_aload_n B eX1_shift_39 0 rfl ?_
        refine gfM_48 B eX1_shift_40 ?_
        refine j_icmp_ge B eX1_shift_43 ho (fun _ ho => ?_) (fun _ ho => ?_)
        · refine j_lsub (lv' := [(0, .ref (ad 99)), (1, .int a1), (2, .int x4), (3, .int x11)]) [0, 1, 2, 3] rfl ?_
          exact hJ9 _ ho
        · refine j_iload_n B eX1_shift_46 3 rfl ?_
          refine j_if_eq B eX1_shift_47 ho (fun _ ho => ?_) (fun _ ho => ?_)
          · refine j_lsub (lv' := [(0, .ref (ad 99)), (1, .int a1), (2, .int x4), (3, .int x11)]) [0, 1, 2, 3] rfl ?_
            exact hJ9 _ ho
          · refine j_iload B eX1_shift_50 4 rfl ?_
            refine j_iload_n B eX1_shift_52 1 rfl ?_
            refine jn1 (C := fun z14 => XJ p l e R s m args below meth c 0 0 Q A D vwCl (cellsM g ad) 5 w 72 [(0, .ref (ad 99)), (1, .int a1), (2, .int x4), (4, .int x12)] [.int z14]) ho (fun z14 ho => ?_) (fun J15 hJ15 ho => ?_)
            · refine j_istore_n (lv' := fun x16 => [(0, .ref (ad 99)), (1, .int a1), (2, .int x4), (3, .int x16), (4, .int x12)]) B eX1_shift_72 [1, 2, 3, 0, 4] (by decide) (fun _ => rfl) ho (fun x16 ho => ?_)
              refine j_iinc (d := 1) (lv' := fun x17 => [(0, .ref (ad 99)), (1, .int a1), (2, .int x4), (3, .int x16), (4, .int x17)]) B eX1_shift_73 4 rfl (by decide) [1, 2, 3, 4, 0] (by decide) (fun _ => rfl) ho (fun x17 ho => ?_)
              refine j_goto B eX1_shift_76 ?_
              exact hself13 _ _ ho
            · refine j_icmp_eq B eX1_shift_53 ho (fun _ ho => ?_) (fun _ ho => ?_)
              · refine j_const B eX1_shift_67 ?_
                refine j_goto B eX1_shift_68 ?_
                refine j_lsub (lv' := [(0, .ref (ad 99)), (1, .int a1), (2, .int x4), (4, .int x12)]) [0, 1, 2, 4] rfl ?_
                exact hJ15 _ ho
              · refine j_aload_n B eX1_shift_56 0 rfl ?_
                refine j_iload_n B eX1_shift_57 1 rfl ?_
                refine j_iload_n B eX1_shift_58 2 rfl ?_
                refine j_iload B eX1_shift_59 4 rfl ?_
                refine j_callVi (As := [.int a1, .int x4, .int x12]) B hA (met_X1_clash l D g ad w a1 x4 x12) NT_ok pkX1_clash q1174 0 rfl rfl rfl rfl hRm ⟨Nat.le_of_ble_eq_true rfl, Nat.le_of_ble_eq_true rfl⟩ rfl rfl (Nat.le_of_ble_eq_true rfl) ⟨Nat.zero_le _, Nat.zero_le _⟩ eX1_shift_61 ho (fun v18 ho => ?_)
                refine j_if_ne B eX1_shift_64 ho (fun _ ho => ?_) (fun _ ho => ?_)
                · refine j_const B eX1_shift_71 ?_
                  refine j_lsub (lv' := [(0, .ref (ad 99)), (1, .int a1), (2, .int x4), (4, .int x12)]) [0, 1, 2, 4] rfl ?_
                  exact hJ15 _ ho
                · refine j_const B eX1_shift_67 ?_
                  refine j_goto B eX1_shift_68 ?_
                  refine j_lsub (lv' := [(0, .ref (ad 99)), (1, .int a1), (2, .int x4), (4, .int x12)]) [0, 1, 2, 4] rfl ?_
                  exact hJ15 _ ho
  · refine j_const B eX1_shift_16 ?_
    exact j_iret B hr hQ eX1_shift_17 ho
