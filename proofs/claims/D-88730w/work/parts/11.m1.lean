set_option maxRecDepth 100000
theorem eX1_determinant_0 : DC cX1_determinant 0 (0) 1 := Or.inl ⟨0, ⟨by decide +kernel, rfl⟩, by decide⟩
theorem eX1_determinant_1 : D1 cX1_determinant 1 (.istore_n 2) 2 := ⟨by decide +kernel, rfl⟩
theorem eX1_determinant_2 : D1 cX1_determinant 2 (.iload_n 2) 3 := ⟨by decide +kernel, rfl⟩
theorem eX1_determinant_3 : DC cX1_determinant 3 (128) 6 := Or.inr (Or.inr ⟨128, ⟨by decide +kernel, rfl⟩, by decide⟩)
theorem eX1_determinant_6 : DJ cX1_determinant 6 (.if_icmp .ge) 30 9 := ⟨24, by decide +kernel, by decide, rfl⟩
theorem eX1_determinant_9 : D1 cX1_determinant 9 (.aload_n 0) 10 := ⟨by decide +kernel, rfl⟩
theorem eX1_determinant_10 : D3 cX1_determinant 10 (.getfield 63) 13 := ⟨by decide +kernel, rfl⟩
theorem eX1_determinant_13 : D1 cX1_determinant 13 (.iload_n 2) 14 := ⟨by decide +kernel, rfl⟩
theorem eX1_determinant_14 : D1 cX1_determinant 14 (.iload_n 2) 15 := ⟨by decide +kernel, rfl⟩
theorem eX1_determinant_15 : DJ cX1_determinant 15 (.ifCond .ne) 22 18 := ⟨7, by decide +kernel, by decide, rfl⟩
theorem eX1_determinant_18 : D1 cX1_determinant 18 (.lconst 1) 19 := ⟨by decide +kernel, rfl⟩
theorem eX1_determinant_19 : DJ cX1_determinant 19 .goto 23 22 := ⟨4, by decide +kernel, by decide, rfl⟩
theorem eX1_determinant_22 : D1 cX1_determinant 22 (.lconst 0) 23 := ⟨by decide +kernel, rfl⟩
theorem eX1_determinant_23 : D1 cX1_determinant 23 (.lastore) 24 := ⟨by decide +kernel, rfl⟩
theorem eX1_determinant_24 : D3 cX1_determinant 24 (.iinc 2 1) 27 := ⟨by decide +kernel, rfl⟩
theorem eX1_determinant_27 : DJ cX1_determinant 27 .goto 2 30 := ⟨-25, by decide +kernel, by decide, rfl⟩
theorem eX1_determinant_30 : DC cX1_determinant 30 (0) 31 := Or.inl ⟨0, ⟨by decide +kernel, rfl⟩, by decide⟩
theorem eX1_determinant_31 : D1 cX1_determinant 31 (.istore_n 2) 32 := ⟨by decide +kernel, rfl⟩
theorem eX1_determinant_32 : D1 cX1_determinant 32 (.iload_n 2) 33 := ⟨by decide +kernel, rfl⟩
theorem eX1_determinant_33 : D1 cX1_determinant 33 (.aload_n 0) 34 := ⟨by decide +kernel, rfl⟩
theorem eX1_determinant_34 : D3 cX1_determinant 34 (.getfield 186) 37 := ⟨by decide +kernel, rfl⟩
theorem eX1_determinant_37 : DJ cX1_determinant 37 (.if_icmp .ge) 185 40 := ⟨148, by decide +kernel, by decide, rfl⟩
theorem eX1_determinant_40 : DC cX1_determinant 40 (127) 42 := Or.inr (Or.inl ⟨127, ⟨by decide +kernel, rfl⟩, by decide⟩)
theorem eX1_determinant_42 : D1 cX1_determinant 42 (.istore_n 3) 43 := ⟨by decide +kernel, rfl⟩
theorem eX1_determinant_43 : D1 cX1_determinant 43 (.iload_n 3) 44 := ⟨by decide +kernel, rfl⟩
theorem eX1_determinant_44 : DJ cX1_determinant 44 (.ifCond .lt) 179 47 := ⟨135, by decide +kernel, by decide, rfl⟩
theorem eX1_determinant_47 : D1 cX1_determinant 47 (.iload_n 3) 48 := ⟨by decide +kernel, rfl⟩
theorem eX1_determinant_48 : D3 cX1_determinant 48 (.invokestatic 189) 51 := ⟨by decide +kernel, rfl⟩
theorem eX1_determinant_51 : D1 cX1_determinant 51 (.iload_n 2) 52 := ⟨by decide +kernel, rfl⟩
theorem eX1_determinant_52 : DJ cX1_determinant 52 (.if_icmp .ne) 173 55 := ⟨121, by decide +kernel, by decide, rfl⟩
theorem eX1_determinant_55 : D1 cX1_determinant 55 (.aload_n 0) 56 := ⟨by decide +kernel, rfl⟩
theorem eX1_determinant_56 : D3 cX1_determinant 56 (.getfield 63) 59 := ⟨by decide +kernel, rfl⟩
theorem eX1_determinant_59 : D1 cX1_determinant 59 (.iload_n 3) 60 := ⟨by decide +kernel, rfl⟩
theorem eX1_determinant_60 : D1 cX1_determinant 60 (.laload) 61 := ⟨by decide +kernel, rfl⟩
theorem eX1_determinant_61 : D1 cX1_determinant 61 (.lconst 0) 62 := ⟨by decide +kernel, rfl⟩
theorem eX1_determinant_62 : D1 cX1_determinant 62 (.lcmp) 63 := ⟨by decide +kernel, rfl⟩
theorem eX1_determinant_63 : DJ cX1_determinant 63 (.ifCond .ne) 69 66 := ⟨6, by decide +kernel, by decide, rfl⟩
theorem eX1_determinant_66 : DJ cX1_determinant 66 .goto 173 69 := ⟨107, by decide +kernel, by decide, rfl⟩
theorem eX1_determinant_69 : DC cX1_determinant 69 (0) 70 := Or.inl ⟨0, ⟨by decide +kernel, rfl⟩, by decide⟩
theorem eX1_determinant_70 : D2 cX1_determinant 70 (.istore 4) 72 := ⟨by decide +kernel, rfl⟩
theorem eX1_determinant_72 : D2 cX1_determinant 72 (.iload 4) 74 := ⟨by decide +kernel, rfl⟩
theorem eX1_determinant_74 : D1 cX1_determinant 74 (.aload_n 0) 75 := ⟨by decide +kernel, rfl⟩
theorem eX1_determinant_75 : D3 cX1_determinant 75 (.getfield 186) 78 := ⟨by decide +kernel, rfl⟩
theorem eX1_determinant_78 : DJ cX1_determinant 78 (.if_icmp .ge) 173 81 := ⟨95, by decide +kernel, by decide, rfl⟩
theorem eX1_determinant_81 : D1 cX1_determinant 81 (.iload_n 3) 82 := ⟨by decide +kernel, rfl⟩
theorem eX1_determinant_82 : D2 cX1_determinant 82 (.iload 4) 84 := ⟨by decide +kernel, rfl⟩
theorem eX1_determinant_84 : D1 cX1_determinant 84 (.ishr) 85 := ⟨by decide +kernel, rfl⟩
theorem eX1_determinant_85 : DC cX1_determinant 85 (1) 86 := Or.inl ⟨1, ⟨by decide +kernel, rfl⟩, by decide⟩
theorem eX1_determinant_86 : D1 cX1_determinant 86 (.iand) 87 := ⟨by decide +kernel, rfl⟩
theorem eX1_determinant_87 : DC cX1_determinant 87 (1) 88 := Or.inl ⟨1, ⟨by decide +kernel, rfl⟩, by decide⟩
theorem eX1_determinant_88 : DJ cX1_determinant 88 (.if_icmp .ne) 94 91 := ⟨6, by decide +kernel, by decide, rfl⟩
theorem eX1_determinant_91 : DJ cX1_determinant 91 .goto 167 94 := ⟨76, by decide +kernel, by decide, rfl⟩
theorem eX1_determinant_94 : D1 cX1_determinant 94 (.aload_n 0) 95 := ⟨by decide +kernel, rfl⟩
theorem eX1_determinant_95 : D3 cX1_determinant 95 (.getfield 63) 98 := ⟨by decide +kernel, rfl⟩
theorem eX1_determinant_98 : D1 cX1_determinant 98 (.iload_n 3) 99 := ⟨by decide +kernel, rfl⟩
theorem eX1_determinant_99 : D1 cX1_determinant 99 (.laload) 100 := ⟨by decide +kernel, rfl⟩
theorem eX1_determinant_100 : D2 cX1_determinant 100 (.iload 4) 102 := ⟨by decide +kernel, rfl⟩
theorem eX1_determinant_102 : D1 cX1_determinant 102 (.iload_n 1) 103 := ⟨by decide +kernel, rfl⟩
theorem eX1_determinant_103 : DJ cX1_determinant 103 (.if_icmp .ne) 115 106 := ⟨12, by decide +kernel, by decide, rfl⟩
theorem eX1_determinant_106 : D1 cX1_determinant 106 (.aload_n 0) 107 := ⟨by decide +kernel, rfl⟩
theorem eX1_determinant_107 : D3 cX1_determinant 107 (.getfield 60) 110 := ⟨by decide +kernel, rfl⟩
theorem eX1_determinant_110 : D1 cX1_determinant 110 (.iload_n 2) 111 := ⟨by decide +kernel, rfl⟩
theorem eX1_determinant_111 : D1 cX1_determinant 111 (.laload) 112 := ⟨by decide +kernel, rfl⟩
theorem eX1_determinant_112 : DJ cX1_determinant 112 .goto 127 115 := ⟨15, by decide +kernel, by decide, rfl⟩
theorem eX1_determinant_115 : D1 cX1_determinant 115 (.aload_n 0) 116 := ⟨by decide +kernel, rfl⟩
theorem eX1_determinant_116 : D3 cX1_determinant 116 (.getfield 56) 119 := ⟨by decide +kernel, rfl⟩
theorem eX1_determinant_119 : DC cX1_determinant 119 (7) 121 := Or.inr (Or.inl ⟨7, ⟨by decide +kernel, rfl⟩, by decide⟩)
theorem eX1_determinant_121 : D1 cX1_determinant 121 (.iload_n 2) 122 := ⟨by decide +kernel, rfl⟩
theorem eX1_determinant_122 : D1 cX1_determinant 122 (.imul) 123 := ⟨by decide +kernel, rfl⟩
theorem eX1_determinant_123 : D2 cX1_determinant 123 (.iload 4) 125 := ⟨by decide +kernel, rfl⟩
theorem eX1_determinant_125 : D1 cX1_determinant 125 (.iadd) 126 := ⟨by decide +kernel, rfl⟩
theorem eX1_determinant_126 : D1 cX1_determinant 126 (.laload) 127 := ⟨by decide +kernel, rfl⟩
theorem eX1_determinant_127 : D1 cX1_determinant 127 (.lmul) 128 := ⟨by decide +kernel, rfl⟩
theorem eX1_determinant_128 : D2 cX1_determinant 128 (.lstore 5) 130 := ⟨by decide +kernel, rfl⟩
theorem eX1_determinant_130 : D1 cX1_determinant 130 (.aload_n 0) 131 := ⟨by decide +kernel, rfl⟩
theorem eX1_determinant_131 : D3 cX1_determinant 131 (.getfield 63) 134 := ⟨by decide +kernel, rfl⟩
theorem eX1_determinant_134 : D1 cX1_determinant 134 (.iload_n 3) 135 := ⟨by decide +kernel, rfl⟩
theorem eX1_determinant_135 : DC cX1_determinant 135 (1) 136 := Or.inl ⟨1, ⟨by decide +kernel, rfl⟩, by decide⟩
theorem eX1_determinant_136 : D2 cX1_determinant 136 (.iload 4) 138 := ⟨by decide +kernel, rfl⟩
theorem eX1_determinant_138 : D1 cX1_determinant 138 (.ishl) 139 := ⟨by decide +kernel, rfl⟩
theorem eX1_determinant_139 : D1 cX1_determinant 139 (.ior) 140 := ⟨by decide +kernel, rfl⟩
theorem eX1_determinant_140 : D1 cX1_determinant 140 (.dup2) 141 := ⟨by decide +kernel, rfl⟩
theorem eX1_determinant_141 : D1 cX1_determinant 141 (.laload) 142 := ⟨by decide +kernel, rfl⟩
theorem eX1_determinant_142 : D1 cX1_determinant 142 (.iload_n 3) 143 := ⟨by decide +kernel, rfl⟩
theorem eX1_determinant_143 : D2 cX1_determinant 143 (.iload 4) 145 := ⟨by decide +kernel, rfl⟩
theorem eX1_determinant_145 : DC cX1_determinant 145 (1) 146 := Or.inl ⟨1, ⟨by decide +kernel, rfl⟩, by decide⟩
theorem eX1_determinant_146 : D1 cX1_determinant 146 (.iadd) 147 := ⟨by decide +kernel, rfl⟩
theorem eX1_determinant_147 : D1 cX1_determinant 147 (.ishr) 148 := ⟨by decide +kernel, rfl⟩
theorem eX1_determinant_148 : D3 cX1_determinant 148 (.invokestatic 189) 151 := ⟨by decide +kernel, rfl⟩
theorem eX1_determinant_151 : DC cX1_determinant 151 (2) 152 := Or.inl ⟨2, ⟨by decide +kernel, rfl⟩, by decide⟩
theorem eX1_determinant_152 : D1 cX1_determinant 152 (.irem) 153 := ⟨by decide +kernel, rfl⟩
theorem eX1_determinant_153 : DC cX1_determinant 153 (1) 154 := Or.inl ⟨1, ⟨by decide +kernel, rfl⟩, by decide⟩
theorem eX1_determinant_154 : DJ cX1_determinant 154 (.if_icmp .ne) 163 157 := ⟨9, by decide +kernel, by decide, rfl⟩
theorem eX1_determinant_157 : D2 cX1_determinant 157 (.lload 5) 159 := ⟨by decide +kernel, rfl⟩
theorem eX1_determinant_159 : D1 cX1_determinant 159 (.lneg) 160 := ⟨by decide +kernel, rfl⟩
theorem eX1_determinant_160 : DJ cX1_determinant 160 .goto 165 163 := ⟨5, by decide +kernel, by decide, rfl⟩
theorem eX1_determinant_163 : D2 cX1_determinant 163 (.lload 5) 165 := ⟨by decide +kernel, rfl⟩
theorem eX1_determinant_165 : D1 cX1_determinant 165 (.ladd) 166 := ⟨by decide +kernel, rfl⟩
theorem eX1_determinant_166 : D1 cX1_determinant 166 (.lastore) 167 := ⟨by decide +kernel, rfl⟩
theorem eX1_determinant_167 : D3 cX1_determinant 167 (.iinc 4 1) 170 := ⟨by decide +kernel, rfl⟩
theorem eX1_determinant_170 : DJ cX1_determinant 170 .goto 72 173 := ⟨-98, by decide +kernel, by decide, rfl⟩
theorem eX1_determinant_173 : D3 cX1_determinant 173 (.iinc 3 (-1)) 176 := ⟨by decide +kernel, rfl⟩
theorem eX1_determinant_176 : DJ cX1_determinant 176 .goto 43 179 := ⟨-133, by decide +kernel, by decide, rfl⟩
theorem eX1_determinant_179 : D3 cX1_determinant 179 (.iinc 2 1) 182 := ⟨by decide +kernel, rfl⟩
theorem eX1_determinant_182 : DJ cX1_determinant 182 .goto 32 185 := ⟨-150, by decide +kernel, by decide, rfl⟩
theorem eX1_determinant_185 : D1 cX1_determinant 185 (.aload_n 0) 186 := ⟨by decide +kernel, rfl⟩
theorem eX1_determinant_186 : D3 cX1_determinant 186 (.getfield 63) 189 := ⟨by decide +kernel, rfl⟩
theorem eX1_determinant_189 : DC cX1_determinant 189 (1) 190 := Or.inl ⟨1, ⟨by decide +kernel, rfl⟩, by decide⟩
theorem eX1_determinant_190 : D1 cX1_determinant 190 (.aload_n 0) 191 := ⟨by decide +kernel, rfl⟩
theorem eX1_determinant_191 : D3 cX1_determinant 191 (.getfield 186) 194 := ⟨by decide +kernel, rfl⟩
theorem eX1_determinant_194 : D1 cX1_determinant 194 (.ishl) 195 := ⟨by decide +kernel, rfl⟩
theorem eX1_determinant_195 : DC cX1_determinant 195 (1) 196 := Or.inl ⟨1, ⟨by decide +kernel, rfl⟩, by decide⟩
theorem eX1_determinant_196 : D1 cX1_determinant 196 (.isub) 197 := ⟨by decide +kernel, rfl⟩
theorem eX1_determinant_197 : D1 cX1_determinant 197 (.laload) 198 := ⟨by decide +kernel, rfl⟩
theorem eX1_determinant_198 : D1 cX1_determinant 198 (.lreturn) 199 := ⟨by decide +kernel, rfl⟩
theorem eX1_solves_0 : D1 cX1_solves 0 (.aload_n 0) 1 := ⟨by decide +kernel, rfl⟩
theorem eX1_solves_1 : D3 cX1_solves 1 (.invokevirtual 183) 4 := ⟨by decide +kernel, rfl⟩
theorem eX1_solves_4 : D1 cX1_solves 4 (.aload_n 0) 5 := ⟨by decide +kernel, rfl⟩
theorem eX1_solves_5 : D3 cX1_solves 5 (.getfield 50) 8 := ⟨by decide +kernel, rfl⟩
theorem eX1_solves_8 : D1 cX1_solves 8 (.iload_n 1) 9 := ⟨by decide +kernel, rfl⟩
theorem eX1_solves_9 : D1 cX1_solves 9 (.iaload) 10 := ⟨by decide +kernel, rfl⟩
theorem eX1_solves_10 : D1 cX1_solves 10 (.istore_n 2) 11 := ⟨by decide +kernel, rfl⟩
theorem eX1_solves_11 : D1 cX1_solves 11 (.aload_n 0) 12 := ⟨by decide +kernel, rfl⟩
theorem eX1_solves_12 : DC cX1_solves 12 (0) 13 := Or.inl ⟨0, ⟨by decide +kernel, rfl⟩, by decide⟩
theorem eX1_solves_13 : D3 cX1_solves 13 (.putfield 186) 16 := ⟨by decide +kernel, rfl⟩
theorem eX1_solves_16 : DC cX1_solves 16 (0) 17 := Or.inl ⟨0, ⟨by decide +kernel, rfl⟩, by decide⟩
theorem eX1_solves_17 : D1 cX1_solves 17 (.istore_n 3) 18 := ⟨by decide +kernel, rfl⟩
theorem eX1_solves_18 : D1 cX1_solves 18 (.iload_n 3) 19 := ⟨by decide +kernel, rfl⟩
theorem eX1_solves_19 : D1 cX1_solves 19 (.aload_n 0) 20 := ⟨by decide +kernel, rfl⟩
theorem eX1_solves_20 : D3 cX1_solves 20 (.getfield 136) 23 := ⟨by decide +kernel, rfl⟩
theorem eX1_solves_23 : DJ cX1_solves 23 (.if_icmp .ge) 88 26 := ⟨65, by decide +kernel, by decide, rfl⟩
theorem eX1_solves_26 : D1 cX1_solves 26 (.aload_n 0) 27 := ⟨by decide +kernel, rfl⟩
theorem eX1_solves_27 : D3 cX1_solves 27 (.getfield 53) 30 := ⟨by decide +kernel, rfl⟩
theorem eX1_solves_30 : D1 cX1_solves 30 (.iload_n 3) 31 := ⟨by decide +kernel, rfl⟩
theorem eX1_solves_31 : DC cX1_solves 31 (-1) 32 := Or.inl ⟨-1, ⟨by decide +kernel, rfl⟩, by decide⟩
theorem eX1_solves_32 : D1 cX1_solves 32 (.iastore) 33 := ⟨by decide +kernel, rfl⟩
theorem eX1_solves_33 : D1 cX1_solves 33 (.aload_n 0) 34 := ⟨by decide +kernel, rfl⟩
theorem eX1_solves_34 : D3 cX1_solves 34 (.getfield 50) 37 := ⟨by decide +kernel, rfl⟩
theorem eX1_solves_37 : D1 cX1_solves 37 (.iload_n 3) 38 := ⟨by decide +kernel, rfl⟩
theorem eX1_solves_38 : D1 cX1_solves 38 (.iaload) 39 := ⟨by decide +kernel, rfl⟩
theorem eX1_solves_39 : D1 cX1_solves 39 (.iload_n 2) 40 := ⟨by decide +kernel, rfl⟩
theorem eX1_solves_40 : DJ cX1_solves 40 (.if_icmp .ne) 82 43 := ⟨42, by decide +kernel, by decide, rfl⟩
theorem eX1_solves_43 : D1 cX1_solves 43 (.iload_n 3) 44 := ⟨by decide +kernel, rfl⟩
theorem eX1_solves_44 : D1 cX1_solves 44 (.iload_n 2) 45 := ⟨by decide +kernel, rfl⟩
theorem eX1_solves_45 : DJ cX1_solves 45 (.if_icmp .ne) 51 48 := ⟨6, by decide +kernel, by decide, rfl⟩
theorem eX1_solves_48 : DJ cX1_solves 48 .goto 82 51 := ⟨34, by decide +kernel, by decide, rfl⟩
theorem eX1_solves_51 : D1 cX1_solves 51 (.aload_n 0) 52 := ⟨by decide +kernel, rfl⟩
theorem eX1_solves_52 : D3 cX1_solves 52 (.getfield 186) 55 := ⟨by decide +kernel, rfl⟩
theorem eX1_solves_55 : DC cX1_solves 55 (6) 57 := Or.inr (Or.inl ⟨6, ⟨by decide +kernel, rfl⟩, by decide⟩)
theorem eX1_solves_57 : DJ cX1_solves 57 (.if_icmp .ne) 62 60 := ⟨5, by decide +kernel, by decide, rfl⟩
theorem eX1_solves_60 : DC cX1_solves 60 (0) 61 := Or.inl ⟨0, ⟨by decide +kernel, rfl⟩, by decide⟩
theorem eX1_solves_61 : D1 cX1_solves 61 (.ireturn) 62 := ⟨by decide +kernel, rfl⟩
theorem eX1_solves_62 : D1 cX1_solves 62 (.aload_n 0) 63 := ⟨by decide +kernel, rfl⟩
theorem eX1_solves_63 : D3 cX1_solves 63 (.getfield 53) 66 := ⟨by decide +kernel, rfl⟩
theorem eX1_solves_66 : D1 cX1_solves 66 (.iload_n 3) 67 := ⟨by decide +kernel, rfl⟩
theorem eX1_solves_67 : D1 cX1_solves 67 (.aload_n 0) 68 := ⟨by decide +kernel, rfl⟩
theorem eX1_solves_68 : D3 cX1_solves 68 (.getfield 186) 71 := ⟨by decide +kernel, rfl⟩
theorem eX1_solves_71 : D1 cX1_solves 71 (.iastore) 72 := ⟨by decide +kernel, rfl⟩
theorem eX1_solves_72 : D1 cX1_solves 72 (.aload_n 0) 73 := ⟨by decide +kernel, rfl⟩
theorem eX1_solves_73 : D1 cX1_solves 73 (.dup) 74 := ⟨by decide +kernel, rfl⟩
theorem eX1_solves_74 : D3 cX1_solves 74 (.getfield 186) 77 := ⟨by decide +kernel, rfl⟩
theorem eX1_solves_77 : DC cX1_solves 77 (1) 78 := Or.inl ⟨1, ⟨by decide +kernel, rfl⟩, by decide⟩
theorem eX1_solves_78 : D1 cX1_solves 78 (.iadd) 79 := ⟨by decide +kernel, rfl⟩
theorem eX1_solves_79 : D3 cX1_solves 79 (.putfield 186) 82 := ⟨by decide +kernel, rfl⟩
theorem eX1_solves_82 : D3 cX1_solves 82 (.iinc 3 1) 85 := ⟨by decide +kernel, rfl⟩
theorem eX1_solves_85 : DJ cX1_solves 85 .goto 18 88 := ⟨-67, by decide +kernel, by decide, rfl⟩
theorem eX1_solves_88 : DC cX1_solves 88 (0) 89 := Or.inl ⟨0, ⟨by decide +kernel, rfl⟩, by decide⟩
theorem eX1_solves_89 : D1 cX1_solves 89 (.istore_n 3) 90 := ⟨by decide +kernel, rfl⟩
theorem eX1_solves_90 : D1 cX1_solves 90 (.iload_n 3) 91 := ⟨by decide +kernel, rfl⟩
theorem eX1_solves_91 : DC cX1_solves 91 (49) 93 := Or.inr (Or.inl ⟨49, ⟨by decide +kernel, rfl⟩, by decide⟩)
theorem eX1_solves_93 : DJ cX1_solves 93 (.if_icmp .ge) 109 96 := ⟨16, by decide +kernel, by decide, rfl⟩
theorem eX1_solves_96 : D1 cX1_solves 96 (.aload_n 0) 97 := ⟨by decide +kernel, rfl⟩
theorem eX1_solves_97 : D3 cX1_solves 97 (.getfield 56) 100 := ⟨by decide +kernel, rfl⟩
theorem eX1_solves_100 : D1 cX1_solves 100 (.iload_n 3) 101 := ⟨by decide +kernel, rfl⟩
theorem eX1_solves_101 : D1 cX1_solves 101 (.lconst 0) 102 := ⟨by decide +kernel, rfl⟩
theorem eX1_solves_102 : D1 cX1_solves 102 (.lastore) 103 := ⟨by decide +kernel, rfl⟩
theorem eX1_solves_103 : D3 cX1_solves 103 (.iinc 3 1) 106 := ⟨by decide +kernel, rfl⟩
theorem eX1_solves_106 : DJ cX1_solves 106 .goto 90 109 := ⟨-16, by decide +kernel, by decide, rfl⟩
theorem eX1_solves_109 : DC cX1_solves 109 (0) 110 := Or.inl ⟨0, ⟨by decide +kernel, rfl⟩, by decide⟩
theorem eX1_solves_110 : D1 cX1_solves 110 (.istore_n 3) 111 := ⟨by decide +kernel, rfl⟩
theorem eX1_solves_111 : D1 cX1_solves 111 (.iload_n 3) 112 := ⟨by decide +kernel, rfl⟩
theorem eX1_solves_112 : DC cX1_solves 112 (7) 114 := Or.inr (Or.inl ⟨7, ⟨by decide +kernel, rfl⟩, by decide⟩)
theorem eX1_solves_114 : DJ cX1_solves 114 (.if_icmp .ge) 130 117 := ⟨16, by decide +kernel, by decide, rfl⟩
theorem eX1_solves_117 : D1 cX1_solves 117 (.aload_n 0) 118 := ⟨by decide +kernel, rfl⟩
theorem eX1_solves_118 : D3 cX1_solves 118 (.getfield 60) 121 := ⟨by decide +kernel, rfl⟩
theorem eX1_solves_121 : D1 cX1_solves 121 (.iload_n 3) 122 := ⟨by decide +kernel, rfl⟩
theorem eX1_solves_122 : D1 cX1_solves 122 (.lconst 0) 123 := ⟨by decide +kernel, rfl⟩
theorem eX1_solves_123 : D1 cX1_solves 123 (.lastore) 124 := ⟨by decide +kernel, rfl⟩
theorem eX1_solves_124 : D3 cX1_solves 124 (.iinc 3 1) 127 := ⟨by decide +kernel, rfl⟩
theorem eX1_solves_127 : DJ cX1_solves 127 .goto 111 130 := ⟨-16, by decide +kernel, by decide, rfl⟩
theorem eX1_solves_130 : DC cX1_solves 130 (0) 131 := Or.inl ⟨0, ⟨by decide +kernel, rfl⟩, by decide⟩
theorem eX1_solves_131 : D1 cX1_solves 131 (.istore_n 3) 132 := ⟨by decide +kernel, rfl⟩
theorem eX1_solves_132 : D1 cX1_solves 132 (.iload_n 3) 133 := ⟨by decide +kernel, rfl⟩
theorem eX1_solves_133 : D1 cX1_solves 133 (.aload_n 0) 134 := ⟨by decide +kernel, rfl⟩
theorem eX1_solves_134 : D3 cX1_solves 134 (.getfield 180) 137 := ⟨by decide +kernel, rfl⟩
theorem eX1_solves_137 : DJ cX1_solves 137 (.if_icmp .ge) 229 140 := ⟨92, by decide +kernel, by decide, rfl⟩
theorem eX1_solves_140 : D1 cX1_solves 140 (.aload_n 0) 141 := ⟨by decide +kernel, rfl⟩
theorem eX1_solves_141 : D3 cX1_solves 141 (.getfield 50) 144 := ⟨by decide +kernel, rfl⟩
theorem eX1_solves_144 : D1 cX1_solves 144 (.aload_n 0) 145 := ⟨by decide +kernel, rfl⟩
theorem eX1_solves_145 : D3 cX1_solves 145 (.getfield 41) 148 := ⟨by decide +kernel, rfl⟩
theorem eX1_solves_148 : D1 cX1_solves 148 (.iload_n 3) 149 := ⟨by decide +kernel, rfl⟩
theorem eX1_solves_149 : D1 cX1_solves 149 (.iaload) 150 := ⟨by decide +kernel, rfl⟩
theorem eX1_solves_150 : D1 cX1_solves 150 (.iaload) 151 := ⟨by decide +kernel, rfl⟩
theorem eX1_solves_151 : D1 cX1_solves 151 (.iload_n 2) 152 := ⟨by decide +kernel, rfl⟩
theorem eX1_solves_152 : DJ cX1_solves 152 (.if_icmp .eq) 158 155 := ⟨6, by decide +kernel, by decide, rfl⟩
theorem eX1_solves_155 : DJ cX1_solves 155 .goto 223 158 := ⟨68, by decide +kernel, by decide, rfl⟩
theorem eX1_solves_158 : D1 cX1_solves 158 (.aload_n 0) 159 := ⟨by decide +kernel, rfl⟩
theorem eX1_solves_159 : D1 cX1_solves 159 (.aload_n 0) 160 := ⟨by decide +kernel, rfl⟩
theorem eX1_solves_160 : D3 cX1_solves 160 (.getfield 53) 163 := ⟨by decide +kernel, rfl⟩
theorem eX1_solves_163 : D1 cX1_solves 163 (.aload_n 0) 164 := ⟨by decide +kernel, rfl⟩
theorem eX1_solves_164 : D3 cX1_solves 164 (.getfield 41) 167 := ⟨by decide +kernel, rfl⟩
theorem eX1_solves_167 : D1 cX1_solves 167 (.iload_n 3) 168 := ⟨by decide +kernel, rfl⟩
theorem eX1_solves_168 : D1 cX1_solves 168 (.iaload) 169 := ⟨by decide +kernel, rfl⟩
theorem eX1_solves_169 : D1 cX1_solves 169 (.iaload) 170 := ⟨by decide +kernel, rfl⟩
theorem eX1_solves_170 : D1 cX1_solves 170 (.aload_n 0) 171 := ⟨by decide +kernel, rfl⟩
theorem eX1_solves_171 : D3 cX1_solves 171 (.getfield 53) 174 := ⟨by decide +kernel, rfl⟩
theorem eX1_solves_174 : D1 cX1_solves 174 (.aload_n 0) 175 := ⟨by decide +kernel, rfl⟩
theorem eX1_solves_175 : D3 cX1_solves 175 (.getfield 44) 178 := ⟨by decide +kernel, rfl⟩
theorem eX1_solves_178 : D1 cX1_solves 178 (.iload_n 3) 179 := ⟨by decide +kernel, rfl⟩
theorem eX1_solves_179 : D1 cX1_solves 179 (.iaload) 180 := ⟨by decide +kernel, rfl⟩
theorem eX1_solves_180 : D1 cX1_solves 180 (.iaload) 181 := ⟨by decide +kernel, rfl⟩
theorem eX1_solves_181 : D1 cX1_solves 181 (.aload_n 0) 182 := ⟨by decide +kernel, rfl⟩
theorem eX1_solves_182 : D3 cX1_solves 182 (.getfield 47) 185 := ⟨by decide +kernel, rfl⟩
theorem eX1_solves_185 : D1 cX1_solves 185 (.iload_n 3) 186 := ⟨by decide +kernel, rfl⟩
theorem eX1_solves_186 : D1 cX1_solves 186 (.iaload) 187 := ⟨by decide +kernel, rfl⟩
theorem eX1_solves_187 : D3 cX1_solves 187 (.invokevirtual 192) 190 := ⟨by decide +kernel, rfl⟩
theorem eX1_solves_190 : D1 cX1_solves 190 (.aload_n 0) 191 := ⟨by decide +kernel, rfl⟩
theorem eX1_solves_191 : D1 cX1_solves 191 (.aload_n 0) 192 := ⟨by decide +kernel, rfl⟩
theorem eX1_solves_192 : D3 cX1_solves 192 (.getfield 53) 195 := ⟨by decide +kernel, rfl⟩
theorem eX1_solves_195 : D1 cX1_solves 195 (.aload_n 0) 196 := ⟨by decide +kernel, rfl⟩
theorem eX1_solves_196 : D3 cX1_solves 196 (.getfield 44) 199 := ⟨by decide +kernel, rfl⟩
theorem eX1_solves_199 : D1 cX1_solves 199 (.iload_n 3) 200 := ⟨by decide +kernel, rfl⟩
theorem eX1_solves_200 : D1 cX1_solves 200 (.iaload) 201 := ⟨by decide +kernel, rfl⟩
theorem eX1_solves_201 : D1 cX1_solves 201 (.iaload) 202 := ⟨by decide +kernel, rfl⟩
theorem eX1_solves_202 : D1 cX1_solves 202 (.aload_n 0) 203 := ⟨by decide +kernel, rfl⟩
theorem eX1_solves_203 : D3 cX1_solves 203 (.getfield 53) 206 := ⟨by decide +kernel, rfl⟩
theorem eX1_solves_206 : D1 cX1_solves 206 (.aload_n 0) 207 := ⟨by decide +kernel, rfl⟩
theorem eX1_solves_207 : D3 cX1_solves 207 (.getfield 41) 210 := ⟨by decide +kernel, rfl⟩
theorem eX1_solves_210 : D1 cX1_solves 210 (.iload_n 3) 211 := ⟨by decide +kernel, rfl⟩
theorem eX1_solves_211 : D1 cX1_solves 211 (.iaload) 212 := ⟨by decide +kernel, rfl⟩
theorem eX1_solves_212 : D1 cX1_solves 212 (.iaload) 213 := ⟨by decide +kernel, rfl⟩
theorem eX1_solves_213 : D1 cX1_solves 213 (.aload_n 0) 214 := ⟨by decide +kernel, rfl⟩
theorem eX1_solves_214 : D3 cX1_solves 214 (.getfield 47) 217 := ⟨by decide +kernel, rfl⟩
theorem eX1_solves_217 : D1 cX1_solves 217 (.iload_n 3) 218 := ⟨by decide +kernel, rfl⟩
theorem eX1_solves_218 : D1 cX1_solves 218 (.iaload) 219 := ⟨by decide +kernel, rfl⟩
theorem eX1_solves_219 : D1 cX1_solves 219 (.ineg) 220 := ⟨by decide +kernel, rfl⟩
theorem eX1_solves_220 : D3 cX1_solves 220 (.invokevirtual 192) 223 := ⟨by decide +kernel, rfl⟩
theorem eX1_solves_223 : D3 cX1_solves 223 (.iinc 3 1) 226 := ⟨by decide +kernel, rfl⟩
theorem eX1_solves_226 : DJ cX1_solves 226 .goto 132 229 := ⟨-94, by decide +kernel, by decide, rfl⟩
theorem eX1_solves_229 : D1 cX1_solves 229 (.aload_n 0) 230 := ⟨by decide +kernel, rfl⟩
theorem eX1_solves_230 : D1 cX1_solves 230 (.aload_n 0) 231 := ⟨by decide +kernel, rfl⟩
theorem eX1_solves_231 : DC cX1_solves 231 (-1) 232 := Or.inl ⟨-1, ⟨by decide +kernel, rfl⟩, by decide⟩
theorem eX1_solves_232 : D3 cX1_solves 232 (.invokevirtual 196) 235 := ⟨by decide +kernel, rfl⟩
theorem eX1_solves_235 : D3 cX1_solves 235 (.putfield 200) 238 := ⟨by decide +kernel, rfl⟩
theorem eX1_solves_238 : DC cX1_solves 238 (0) 239 := Or.inl ⟨0, ⟨by decide +kernel, rfl⟩, by decide⟩
theorem eX1_solves_239 : D1 cX1_solves 239 (.istore_n 3) 240 := ⟨by decide +kernel, rfl⟩
theorem eX1_solves_240 : D1 cX1_solves 240 (.iload_n 3) 241 := ⟨by decide +kernel, rfl⟩
theorem eX1_solves_241 : D1 cX1_solves 241 (.aload_n 0) 242 := ⟨by decide +kernel, rfl⟩
theorem eX1_solves_242 : D3 cX1_solves 242 (.getfield 136) 245 := ⟨by decide +kernel, rfl⟩
theorem eX1_solves_245 : DJ cX1_solves 245 (.if_icmp .ge) 283 248 := ⟨38, by decide +kernel, by decide, rfl⟩
theorem eX1_solves_248 : D1 cX1_solves 248 (.aload_n 0) 249 := ⟨by decide +kernel, rfl⟩
theorem eX1_solves_249 : D3 cX1_solves 249 (.getfield 66) 252 := ⟨by decide +kernel, rfl⟩
theorem eX1_solves_252 : D1 cX1_solves 252 (.iload_n 3) 253 := ⟨by decide +kernel, rfl⟩
theorem eX1_solves_253 : D1 cX1_solves 253 (.aload_n 0) 254 := ⟨by decide +kernel, rfl⟩
theorem eX1_solves_254 : D3 cX1_solves 254 (.getfield 53) 257 := ⟨by decide +kernel, rfl⟩
theorem eX1_solves_257 : D1 cX1_solves 257 (.iload_n 3) 258 := ⟨by decide +kernel, rfl⟩
theorem eX1_solves_258 : D1 cX1_solves 258 (.iaload) 259 := ⟨by decide +kernel, rfl⟩
theorem eX1_solves_259 : DJ cX1_solves 259 (.ifCond .ge) 266 262 := ⟨7, by decide +kernel, by decide, rfl⟩
theorem eX1_solves_262 : D1 cX1_solves 262 (.lconst 0) 263 := ⟨by decide +kernel, rfl⟩
theorem eX1_solves_263 : DJ cX1_solves 263 .goto 276 266 := ⟨13, by decide +kernel, by decide, rfl⟩
theorem eX1_solves_266 : D1 cX1_solves 266 (.aload_n 0) 267 := ⟨by decide +kernel, rfl⟩
theorem eX1_solves_267 : D1 cX1_solves 267 (.aload_n 0) 268 := ⟨by decide +kernel, rfl⟩
theorem eX1_solves_268 : D3 cX1_solves 268 (.getfield 53) 271 := ⟨by decide +kernel, rfl⟩
theorem eX1_solves_271 : D1 cX1_solves 271 (.iload_n 3) 272 := ⟨by decide +kernel, rfl⟩
theorem eX1_solves_272 : D1 cX1_solves 272 (.iaload) 273 := ⟨by decide +kernel, rfl⟩
theorem eX1_solves_273 : D3 cX1_solves 273 (.invokevirtual 196) 276 := ⟨by decide +kernel, rfl⟩
theorem eX1_solves_276 : D1 cX1_solves 276 (.lastore) 277 := ⟨by decide +kernel, rfl⟩
theorem eX1_solves_277 : D3 cX1_solves 277 (.iinc 3 1) 280 := ⟨by decide +kernel, rfl⟩
theorem eX1_solves_280 : DJ cX1_solves 280 .goto 240 283 := ⟨-40, by decide +kernel, by decide, rfl⟩
theorem eX1_solves_283 : DC cX1_solves 283 (1) 284 := Or.inl ⟨1, ⟨by decide +kernel, rfl⟩, by decide⟩
theorem eX1_solves_284 : D1 cX1_solves 284 (.ireturn) 285 := ⟨by decide +kernel, rfl⟩
theorem eX1_divisor_0 : D1 cX1_divisor 0 (.lload_n 0) 1 := ⟨by decide +kernel, rfl⟩
theorem eX1_divisor_1 : D1 cX1_divisor 1 (.lconst 0) 2 := ⟨by decide +kernel, rfl⟩
theorem eX1_divisor_2 : D1 cX1_divisor 2 (.lcmp) 3 := ⟨by decide +kernel, rfl⟩
theorem eX1_divisor_3 : DJ cX1_divisor 3 (.ifCond .ge) 11 6 := ⟨8, by decide +kernel, by decide, rfl⟩
theorem eX1_divisor_6 : D1 cX1_divisor 6 (.lload_n 0) 7 := ⟨by decide +kernel, rfl⟩
theorem eX1_divisor_7 : D1 cX1_divisor 7 (.lneg) 8 := ⟨by decide +kernel, rfl⟩
theorem eX1_divisor_8 : DJ cX1_divisor 8 .goto 12 11 := ⟨4, by decide +kernel, by decide, rfl⟩
theorem eX1_divisor_11 : D1 cX1_divisor 11 (.lload_n 0) 12 := ⟨by decide +kernel, rfl⟩
theorem eX1_divisor_12 : D2 cX1_divisor 12 (.lstore 4) 14 := ⟨by decide +kernel, rfl⟩
theorem eX1_divisor_14 : D1 cX1_divisor 14 (.lload_n 2) 15 := ⟨by decide +kernel, rfl⟩
theorem eX1_divisor_15 : D1 cX1_divisor 15 (.lconst 0) 16 := ⟨by decide +kernel, rfl⟩
theorem eX1_divisor_16 : D1 cX1_divisor 16 (.lcmp) 17 := ⟨by decide +kernel, rfl⟩
theorem eX1_divisor_17 : DJ cX1_divisor 17 (.ifCond .ge) 25 20 := ⟨8, by decide +kernel, by decide, rfl⟩
theorem eX1_divisor_20 : D1 cX1_divisor 20 (.lload_n 2) 21 := ⟨by decide +kernel, rfl⟩
theorem eX1_divisor_21 : D1 cX1_divisor 21 (.lneg) 22 := ⟨by decide +kernel, rfl⟩
theorem eX1_divisor_22 : DJ cX1_divisor 22 .goto 26 25 := ⟨4, by decide +kernel, by decide, rfl⟩
theorem eX1_divisor_25 : D1 cX1_divisor 25 (.lload_n 2) 26 := ⟨by decide +kernel, rfl⟩
theorem eX1_divisor_26 : D2 cX1_divisor 26 (.lstore 6) 28 := ⟨by decide +kernel, rfl⟩
theorem eX1_divisor_28 : D2 cX1_divisor 28 (.lload 6) 30 := ⟨by decide +kernel, rfl⟩
theorem eX1_divisor_30 : D1 cX1_divisor 30 (.lconst 0) 31 := ⟨by decide +kernel, rfl⟩
theorem eX1_divisor_31 : D1 cX1_divisor 31 (.lcmp) 32 := ⟨by decide +kernel, rfl⟩
theorem eX1_divisor_32 : DJ cX1_divisor 32 (.ifCond .eq) 53 35 := ⟨21, by decide +kernel, by decide, rfl⟩
theorem eX1_divisor_35 : D2 cX1_divisor 35 (.lload 4) 37 := ⟨by decide +kernel, rfl⟩
theorem eX1_divisor_37 : D2 cX1_divisor 37 (.lload 6) 39 := ⟨by decide +kernel, rfl⟩
theorem eX1_divisor_39 : D1 cX1_divisor 39 (.lrem) 40 := ⟨by decide +kernel, rfl⟩
theorem eX1_divisor_40 : D2 cX1_divisor 40 (.lstore 8) 42 := ⟨by decide +kernel, rfl⟩
theorem eX1_divisor_42 : D2 cX1_divisor 42 (.lload 6) 44 := ⟨by decide +kernel, rfl⟩
theorem eX1_divisor_44 : D2 cX1_divisor 44 (.lstore 4) 46 := ⟨by decide +kernel, rfl⟩
theorem eX1_divisor_46 : D2 cX1_divisor 46 (.lload 8) 48 := ⟨by decide +kernel, rfl⟩
theorem eX1_divisor_48 : D2 cX1_divisor 48 (.lstore 6) 50 := ⟨by decide +kernel, rfl⟩
theorem eX1_divisor_50 : DJ cX1_divisor 50 .goto 28 53 := ⟨-22, by decide +kernel, by decide, rfl⟩
theorem eX1_divisor_53 : D2 cX1_divisor 53 (.lload 4) 55 := ⟨by decide +kernel, rfl⟩
theorem eX1_divisor_55 : D1 cX1_divisor 55 (.lreturn) 56 := ⟨by decide +kernel, rfl⟩
theorem eX1_part_0 : D1 cX1_part 0 (.lload_n 0) 1 := ⟨by decide +kernel, rfl⟩
theorem eX1_part_1 : D1 cX1_part 1 (.lload_n 2) 2 := ⟨by decide +kernel, rfl⟩
theorem eX1_part_2 : D3 cX1_part 2 (.invokestatic 204) 5 := ⟨by decide +kernel, rfl⟩
theorem eX1_part_5 : D2 cX1_part 5 (.lstore 5) 7 := ⟨by decide +kernel, rfl⟩
theorem eX1_part_7 : D2 cX1_part 7 (.iload 4) 9 := ⟨by decide +kernel, rfl⟩
theorem eX1_part_9 : DJ cX1_part 9 (.ifCond .ne) 19 12 := ⟨10, by decide +kernel, by decide, rfl⟩
theorem eX1_part_12 : D1 cX1_part 12 (.lload_n 0) 13 := ⟨by decide +kernel, rfl⟩
theorem eX1_part_13 : D2 cX1_part 13 (.lload 5) 15 := ⟨by decide +kernel, rfl⟩
theorem eX1_part_15 : D1 cX1_part 15 (.ldiv) 16 := ⟨by decide +kernel, rfl⟩
theorem eX1_part_16 : DJ cX1_part 16 .goto 23 19 := ⟨7, by decide +kernel, by decide, rfl⟩
theorem eX1_part_19 : D1 cX1_part 19 (.lload_n 2) 20 := ⟨by decide +kernel, rfl⟩
theorem eX1_part_20 : D2 cX1_part 20 (.lload 5) 22 := ⟨by decide +kernel, rfl⟩
theorem eX1_part_22 : D1 cX1_part 22 (.ldiv) 23 := ⟨by decide +kernel, rfl⟩
theorem eX1_part_23 : D1 cX1_part 23 (.lreturn) 24 := ⟨by decide +kernel, rfl⟩
theorem eX1_strength_0 : D1 cX1_strength 0 (.aload_n 0) 1 := ⟨by decide +kernel, rfl⟩
theorem eX1_strength_1 : D1 cX1_strength 1 (.iload_n 1) 2 := ⟨by decide +kernel, rfl⟩
theorem eX1_strength_2 : D3 cX1_strength 2 (.invokevirtual 165) 5 := ⟨by decide +kernel, rfl⟩
theorem eX1_strength_5 : DJ cX1_strength 5 (.ifCond .eq) 26 8 := ⟨21, by decide +kernel, by decide, rfl⟩
theorem eX1_strength_8 : D1 cX1_strength 8 (.iload_n 2) 9 := ⟨by decide +kernel, rfl⟩
theorem eX1_strength_9 : D1 cX1_strength 9 (.i2l) 10 := ⟨by decide +kernel, rfl⟩
theorem eX1_strength_10 : D1 cX1_strength 10 (.lconst 0) 11 := ⟨by decide +kernel, rfl⟩
theorem eX1_strength_11 : D1 cX1_strength 11 (.lconst 1) 12 := ⟨by decide +kernel, rfl⟩
theorem eX1_strength_12 : D3 cX1_strength 12 (.invokestatic 155) 15 := ⟨by decide +kernel, rfl⟩
theorem eX1_strength_15 : DJ cX1_strength 15 (.ifCond .eq) 26 18 := ⟨11, by decide +kernel, by decide, rfl⟩
theorem eX1_strength_18 : D1 cX1_strength 18 (.aload_n 0) 19 := ⟨by decide +kernel, rfl⟩
theorem eX1_strength_19 : D1 cX1_strength 19 (.iload_n 1) 20 := ⟨by decide +kernel, rfl⟩
theorem eX1_strength_20 : D3 cX1_strength 20 (.invokevirtual 208) 23 := ⟨by decide +kernel, rfl⟩
theorem eX1_strength_23 : DJ cX1_strength 23 (.ifCond .ne) 30 26 := ⟨7, by decide +kernel, by decide, rfl⟩
theorem eX1_strength_26 : D3 cX1_strength 26 (.ldc2_w 211) 29 := ⟨by decide +kernel, rfl⟩
theorem eX1_strength_29 : D1 cX1_strength 29 (.lreturn) 30 := ⟨by decide +kernel, rfl⟩
theorem eX1_strength_30 : D1 cX1_strength 30 (.aload_n 0) 31 := ⟨by decide +kernel, rfl⟩
theorem eX1_strength_31 : D3 cX1_strength 31 (.getfield 66) 34 := ⟨by decide +kernel, rfl⟩
theorem eX1_strength_34 : D1 cX1_strength 34 (.iload_n 1) 35 := ⟨by decide +kernel, rfl⟩
theorem eX1_strength_35 : D1 cX1_strength 35 (.laload) 36 := ⟨by decide +kernel, rfl⟩
theorem eX1_strength_36 : D1 cX1_strength 36 (.aload_n 0) 37 := ⟨by decide +kernel, rfl⟩
theorem eX1_strength_37 : D3 cX1_strength 37 (.getfield 200) 40 := ⟨by decide +kernel, rfl⟩
theorem eX1_strength_40 : D1 cX1_strength 40 (.iload_n 2) 41 := ⟨by decide +kernel, rfl⟩
theorem eX1_strength_41 : D3 cX1_strength 41 (.invokestatic 213) 44 := ⟨by decide +kernel, rfl⟩
theorem eX1_strength_44 : D1 cX1_strength 44 (.lreturn) 45 := ⟨by decide +kernel, rfl⟩
theorem eX1_between_0 : D1 cX1_between 0 (.aload_n 0) 1 := ⟨by decide +kernel, rfl⟩
theorem eX1_between_1 : D1 cX1_between 1 (.iload_n 1) 2 := ⟨by decide +kernel, rfl⟩
theorem eX1_between_2 : D3 cX1_between 2 (.invokevirtual 165) 5 := ⟨by decide +kernel, rfl⟩
theorem eX1_between_5 : DJ cX1_between 5 (.ifCond .eq) 49 8 := ⟨44, by decide +kernel, by decide, rfl⟩
theorem eX1_between_8 : D1 cX1_between 8 (.aload_n 0) 9 := ⟨by decide +kernel, rfl⟩
theorem eX1_between_9 : D1 cX1_between 9 (.iload_n 2) 10 := ⟨by decide +kernel, rfl⟩
theorem eX1_between_10 : D3 cX1_between 10 (.invokevirtual 165) 13 := ⟨by decide +kernel, rfl⟩
theorem eX1_between_13 : DJ cX1_between 13 (.ifCond .eq) 49 16 := ⟨36, by decide +kernel, by decide, rfl⟩
theorem eX1_between_16 : D1 cX1_between 16 (.iload_n 3) 17 := ⟨by decide +kernel, rfl⟩
theorem eX1_between_17 : D1 cX1_between 17 (.i2l) 18 := ⟨by decide +kernel, rfl⟩
theorem eX1_between_18 : D1 cX1_between 18 (.lconst 0) 19 := ⟨by decide +kernel, rfl⟩
theorem eX1_between_19 : D1 cX1_between 19 (.lconst 1) 20 := ⟨by decide +kernel, rfl⟩
theorem eX1_between_20 : D3 cX1_between 20 (.invokestatic 155) 23 := ⟨by decide +kernel, rfl⟩
theorem eX1_between_23 : DJ cX1_between 23 (.ifCond .eq) 49 26 := ⟨26, by decide +kernel, by decide, rfl⟩
theorem eX1_between_26 : D1 cX1_between 26 (.aload_n 0) 27 := ⟨by decide +kernel, rfl⟩
theorem eX1_between_27 : D1 cX1_between 27 (.iload_n 1) 28 := ⟨by decide +kernel, rfl⟩
theorem eX1_between_28 : D3 cX1_between 28 (.invokevirtual 208) 31 := ⟨by decide +kernel, rfl⟩
theorem eX1_between_31 : DJ cX1_between 31 (.ifCond .eq) 49 34 := ⟨18, by decide +kernel, by decide, rfl⟩
theorem eX1_between_34 : D1 cX1_between 34 (.aload_n 0) 35 := ⟨by decide +kernel, rfl⟩
theorem eX1_between_35 : D3 cX1_between 35 (.getfield 50) 38 := ⟨by decide +kernel, rfl⟩
theorem eX1_between_38 : D1 cX1_between 38 (.iload_n 1) 39 := ⟨by decide +kernel, rfl⟩
theorem eX1_between_39 : D1 cX1_between 39 (.iaload) 40 := ⟨by decide +kernel, rfl⟩
theorem eX1_between_40 : D1 cX1_between 40 (.aload_n 0) 41 := ⟨by decide +kernel, rfl⟩
theorem eX1_between_41 : D3 cX1_between 41 (.getfield 50) 44 := ⟨by decide +kernel, rfl⟩
theorem eX1_between_44 : D1 cX1_between 44 (.iload_n 2) 45 := ⟨by decide +kernel, rfl⟩
theorem eX1_between_45 : D1 cX1_between 45 (.iaload) 46 := ⟨by decide +kernel, rfl⟩
theorem eX1_between_46 : DJ cX1_between 46 (.if_icmp .eq) 53 49 := ⟨7, by decide +kernel, by decide, rfl⟩
theorem eX1_between_49 : D3 cX1_between 49 (.ldc2_w 211) 52 := ⟨by decide +kernel, rfl⟩
theorem eX1_between_52 : D1 cX1_between 52 (.lreturn) 53 := ⟨by decide +kernel, rfl⟩
theorem eX1_between_53 : D1 cX1_between 53 (.aload_n 0) 54 := ⟨by decide +kernel, rfl⟩
theorem eX1_between_54 : D3 cX1_between 54 (.getfield 66) 57 := ⟨by decide +kernel, rfl⟩
theorem eX1_between_57 : D1 cX1_between 57 (.iload_n 1) 58 := ⟨by decide +kernel, rfl⟩
theorem eX1_between_58 : D1 cX1_between 58 (.laload) 59 := ⟨by decide +kernel, rfl⟩
theorem eX1_between_59 : D1 cX1_between 59 (.aload_n 0) 60 := ⟨by decide +kernel, rfl⟩
theorem eX1_between_60 : D3 cX1_between 60 (.getfield 66) 63 := ⟨by decide +kernel, rfl⟩
theorem eX1_between_63 : D1 cX1_between 63 (.iload_n 2) 64 := ⟨by decide +kernel, rfl⟩
theorem eX1_between_64 : D1 cX1_between 64 (.laload) 65 := ⟨by decide +kernel, rfl⟩
theorem eX1_between_65 : D1 cX1_between 65 (.lsub) 66 := ⟨by decide +kernel, rfl⟩
theorem eX1_between_66 : D1 cX1_between 66 (.aload_n 0) 67 := ⟨by decide +kernel, rfl⟩
theorem eX1_between_67 : D3 cX1_between 67 (.getfield 200) 70 := ⟨by decide +kernel, rfl⟩
theorem eX1_between_70 : D1 cX1_between 70 (.iload_n 3) 71 := ⟨by decide +kernel, rfl⟩
theorem eX1_between_71 : D3 cX1_between 71 (.invokestatic 213) 74 := ⟨by decide +kernel, rfl⟩
theorem eX1_between_74 : D1 cX1_between 74 (.lreturn) 75 := ⟨by decide +kernel, rfl⟩
theorem eX1_misfit_0 : D1 cX1_misfit 0 (.aload_n 0) 1 := ⟨by decide +kernel, rfl⟩
theorem eX1_misfit_1 : D1 cX1_misfit 1 (.iload_n 1) 2 := ⟨by decide +kernel, rfl⟩
theorem eX1_misfit_2 : D3 cX1_misfit 2 (.invokevirtual 165) 5 := ⟨by decide +kernel, rfl⟩
theorem eX1_misfit_5 : DJ cX1_misfit 5 (.ifCond .eq) 26 8 := ⟨21, by decide +kernel, by decide, rfl⟩
theorem eX1_misfit_8 : D1 cX1_misfit 8 (.iload_n 2) 9 := ⟨by decide +kernel, rfl⟩
theorem eX1_misfit_9 : D1 cX1_misfit 9 (.i2l) 10 := ⟨by decide +kernel, rfl⟩
theorem eX1_misfit_10 : D1 cX1_misfit 10 (.lconst 0) 11 := ⟨by decide +kernel, rfl⟩
theorem eX1_misfit_11 : D1 cX1_misfit 11 (.lconst 1) 12 := ⟨by decide +kernel, rfl⟩
theorem eX1_misfit_12 : D3 cX1_misfit 12 (.invokestatic 155) 15 := ⟨by decide +kernel, rfl⟩
theorem eX1_misfit_15 : DJ cX1_misfit 15 (.ifCond .eq) 26 18 := ⟨11, by decide +kernel, by decide, rfl⟩
theorem eX1_misfit_18 : D1 cX1_misfit 18 (.aload_n 0) 19 := ⟨by decide +kernel, rfl⟩
theorem eX1_misfit_19 : D1 cX1_misfit 19 (.iload_n 1) 20 := ⟨by decide +kernel, rfl⟩
theorem eX1_misfit_20 : D3 cX1_misfit 20 (.invokevirtual 208) 23 := ⟨by decide +kernel, rfl⟩
theorem eX1_misfit_23 : DJ cX1_misfit 23 (.ifCond .ne) 30 26 := ⟨7, by decide +kernel, by decide, rfl⟩
theorem eX1_misfit_26 : D3 cX1_misfit 26 (.ldc2_w 211) 29 := ⟨by decide +kernel, rfl⟩
theorem eX1_misfit_29 : D1 cX1_misfit 29 (.lreturn) 30 := ⟨by decide +kernel, rfl⟩
theorem eX1_misfit_30 : D1 cX1_misfit 30 (.lconst 0) 31 := ⟨by decide +kernel, rfl⟩
theorem eX1_misfit_31 : D1 cX1_misfit 31 (.lstore_n 3) 32 := ⟨by decide +kernel, rfl⟩
theorem eX1_misfit_32 : DC cX1_misfit 32 (0) 33 := Or.inl ⟨0, ⟨by decide +kernel, rfl⟩, by decide⟩
theorem eX1_misfit_33 : D2 cX1_misfit 33 (.istore 5) 35 := ⟨by decide +kernel, rfl⟩
theorem eX1_misfit_35 : D2 cX1_misfit 35 (.iload 5) 37 := ⟨by decide +kernel, rfl⟩
theorem eX1_misfit_37 : D1 cX1_misfit 37 (.aload_n 0) 38 := ⟨by decide +kernel, rfl⟩
theorem eX1_misfit_38 : D3 cX1_misfit 38 (.getfield 180) 41 := ⟨by decide +kernel, rfl⟩
theorem eX1_misfit_41 : DJ cX1_misfit 41 (.if_icmp .ge) 133 44 := ⟨92, by decide +kernel, by decide, rfl⟩
theorem eX1_misfit_44 : D1 cX1_misfit 44 (.aload_n 0) 45 := ⟨by decide +kernel, rfl⟩
theorem eX1_misfit_45 : D3 cX1_misfit 45 (.getfield 50) 48 := ⟨by decide +kernel, rfl⟩
theorem eX1_misfit_48 : D1 cX1_misfit 48 (.aload_n 0) 49 := ⟨by decide +kernel, rfl⟩
theorem eX1_misfit_49 : D3 cX1_misfit 49 (.getfield 41) 52 := ⟨by decide +kernel, rfl⟩
theorem eX1_misfit_52 : D2 cX1_misfit 52 (.iload 5) 54 := ⟨by decide +kernel, rfl⟩
theorem eX1_misfit_54 : D1 cX1_misfit 54 (.iaload) 55 := ⟨by decide +kernel, rfl⟩
theorem eX1_misfit_55 : D1 cX1_misfit 55 (.iaload) 56 := ⟨by decide +kernel, rfl⟩
theorem eX1_misfit_56 : D1 cX1_misfit 56 (.aload_n 0) 57 := ⟨by decide +kernel, rfl⟩
theorem eX1_misfit_57 : D3 cX1_misfit 57 (.getfield 50) 60 := ⟨by decide +kernel, rfl⟩
theorem eX1_misfit_60 : D1 cX1_misfit 60 (.iload_n 1) 61 := ⟨by decide +kernel, rfl⟩
theorem eX1_misfit_61 : D1 cX1_misfit 61 (.iaload) 62 := ⟨by decide +kernel, rfl⟩
theorem eX1_misfit_62 : DJ cX1_misfit 62 (.if_icmp .eq) 68 65 := ⟨6, by decide +kernel, by decide, rfl⟩
theorem eX1_misfit_65 : DJ cX1_misfit 65 .goto 127 68 := ⟨62, by decide +kernel, by decide, rfl⟩
theorem eX1_misfit_68 : D1 cX1_misfit 68 (.aload_n 0) 69 := ⟨by decide +kernel, rfl⟩
theorem eX1_misfit_69 : D3 cX1_misfit 69 (.getfield 66) 72 := ⟨by decide +kernel, rfl⟩
theorem eX1_misfit_72 : D1 cX1_misfit 72 (.aload_n 0) 73 := ⟨by decide +kernel, rfl⟩
theorem eX1_misfit_73 : D3 cX1_misfit 73 (.getfield 41) 76 := ⟨by decide +kernel, rfl⟩
theorem eX1_misfit_76 : D2 cX1_misfit 76 (.iload 5) 78 := ⟨by decide +kernel, rfl⟩
theorem eX1_misfit_78 : D1 cX1_misfit 78 (.iaload) 79 := ⟨by decide +kernel, rfl⟩
theorem eX1_misfit_79 : D1 cX1_misfit 79 (.laload) 80 := ⟨by decide +kernel, rfl⟩
theorem eX1_misfit_80 : D1 cX1_misfit 80 (.aload_n 0) 81 := ⟨by decide +kernel, rfl⟩
theorem eX1_misfit_81 : D3 cX1_misfit 81 (.getfield 66) 84 := ⟨by decide +kernel, rfl⟩
theorem eX1_misfit_84 : D1 cX1_misfit 84 (.aload_n 0) 85 := ⟨by decide +kernel, rfl⟩
theorem eX1_misfit_85 : D3 cX1_misfit 85 (.getfield 44) 88 := ⟨by decide +kernel, rfl⟩
theorem eX1_misfit_88 : D2 cX1_misfit 88 (.iload 5) 90 := ⟨by decide +kernel, rfl⟩
theorem eX1_misfit_90 : D1 cX1_misfit 90 (.iaload) 91 := ⟨by decide +kernel, rfl⟩
theorem eX1_misfit_91 : D1 cX1_misfit 91 (.laload) 92 := ⟨by decide +kernel, rfl⟩
theorem eX1_misfit_92 : D1 cX1_misfit 92 (.lsub) 93 := ⟨by decide +kernel, rfl⟩
theorem eX1_misfit_93 : D1 cX1_misfit 93 (.aload_n 0) 94 := ⟨by decide +kernel, rfl⟩
theorem eX1_misfit_94 : D3 cX1_misfit 94 (.getfield 47) 97 := ⟨by decide +kernel, rfl⟩
theorem eX1_misfit_97 : D2 cX1_misfit 97 (.iload 5) 99 := ⟨by decide +kernel, rfl⟩
theorem eX1_misfit_99 : D1 cX1_misfit 99 (.iaload) 100 := ⟨by decide +kernel, rfl⟩
theorem eX1_misfit_100 : D1 cX1_misfit 100 (.i2l) 101 := ⟨by decide +kernel, rfl⟩
theorem eX1_misfit_101 : D1 cX1_misfit 101 (.aload_n 0) 102 := ⟨by decide +kernel, rfl⟩
theorem eX1_misfit_102 : D3 cX1_misfit 102 (.getfield 200) 105 := ⟨by decide +kernel, rfl⟩
theorem eX1_misfit_105 : D1 cX1_misfit 105 (.lmul) 106 := ⟨by decide +kernel, rfl⟩
theorem eX1_misfit_106 : D1 cX1_misfit 106 (.lsub) 107 := ⟨by decide +kernel, rfl⟩
theorem eX1_misfit_107 : D2 cX1_misfit 107 (.lstore 6) 109 := ⟨by decide +kernel, rfl⟩
theorem eX1_misfit_109 : D1 cX1_misfit 109 (.lload_n 3) 110 := ⟨by decide +kernel, rfl⟩
theorem eX1_misfit_110 : D2 cX1_misfit 110 (.lload 6) 112 := ⟨by decide +kernel, rfl⟩
theorem eX1_misfit_112 : D1 cX1_misfit 112 (.lconst 0) 113 := ⟨by decide +kernel, rfl⟩
theorem eX1_misfit_113 : D1 cX1_misfit 113 (.lcmp) 114 := ⟨by decide +kernel, rfl⟩
theorem eX1_misfit_114 : DJ cX1_misfit 114 (.ifCond .ge) 123 117 := ⟨9, by decide +kernel, by decide, rfl⟩
theorem eX1_misfit_117 : D2 cX1_misfit 117 (.lload 6) 119 := ⟨by decide +kernel, rfl⟩
theorem eX1_misfit_119 : D1 cX1_misfit 119 (.lneg) 120 := ⟨by decide +kernel, rfl⟩
theorem eX1_misfit_120 : DJ cX1_misfit 120 .goto 125 123 := ⟨5, by decide +kernel, by decide, rfl⟩
theorem eX1_misfit_123 : D2 cX1_misfit 123 (.lload 6) 125 := ⟨by decide +kernel, rfl⟩
theorem eX1_misfit_125 : D1 cX1_misfit 125 (.ladd) 126 := ⟨by decide +kernel, rfl⟩
theorem eX1_misfit_126 : D1 cX1_misfit 126 (.lstore_n 3) 127 := ⟨by decide +kernel, rfl⟩
theorem eX1_misfit_127 : D3 cX1_misfit 127 (.iinc 5 1) 130 := ⟨by decide +kernel, rfl⟩
theorem eX1_misfit_130 : DJ cX1_misfit 130 .goto 35 133 := ⟨-95, by decide +kernel, by decide, rfl⟩
theorem eX1_misfit_133 : D1 cX1_misfit 133 (.lload_n 3) 134 := ⟨by decide +kernel, rfl⟩
theorem eX1_misfit_134 : D1 cX1_misfit 134 (.aload_n 0) 135 := ⟨by decide +kernel, rfl⟩
theorem eX1_misfit_135 : D3 cX1_misfit 135 (.getfield 200) 138 := ⟨by decide +kernel, rfl⟩
theorem eX1_misfit_138 : D1 cX1_misfit 138 (.iload_n 2) 139 := ⟨by decide +kernel, rfl⟩
theorem eX1_misfit_139 : D3 cX1_misfit 139 (.invokestatic 213) 142 := ⟨by decide +kernel, rfl⟩
theorem eX1_misfit_142 : D1 cX1_misfit 142 (.lreturn) 143 := ⟨by decide +kernel, rfl⟩
theorem eX1_sure_0 : D1 cX1_sure 0 (.aload_n 0) 1 := ⟨by decide +kernel, rfl⟩
theorem eX1_sure_1 : D1 cX1_sure 1 (.iload_n 1) 2 := ⟨by decide +kernel, rfl⟩
theorem eX1_sure_2 : D3 cX1_sure 2 (.invokevirtual 165) 5 := ⟨by decide +kernel, rfl⟩
theorem eX1_sure_5 : DJ cX1_sure 5 (.ifCond .eq) 16 8 := ⟨11, by decide +kernel, by decide, rfl⟩
theorem eX1_sure_8 : D1 cX1_sure 8 (.aload_n 0) 9 := ⟨by decide +kernel, rfl⟩
theorem eX1_sure_9 : D1 cX1_sure 9 (.iload_n 2) 10 := ⟨by decide +kernel, rfl⟩
theorem eX1_sure_10 : D3 cX1_sure 10 (.invokevirtual 165) 13 := ⟨by decide +kernel, rfl⟩
theorem eX1_sure_13 : DJ cX1_sure 13 (.ifCond .ne) 18 16 := ⟨5, by decide +kernel, by decide, rfl⟩
theorem eX1_sure_16 : DC cX1_sure 16 (-1) 17 := Or.inl ⟨-1, ⟨by decide +kernel, rfl⟩, by decide⟩
theorem eX1_sure_17 : D1 cX1_sure 17 (.ireturn) 18 := ⟨by decide +kernel, rfl⟩
theorem eX1_sure_18 : D1 cX1_sure 18 (.iload_n 1) 19 := ⟨by decide +kernel, rfl⟩
theorem eX1_sure_19 : D1 cX1_sure 19 (.iload_n 2) 20 := ⟨by decide +kernel, rfl⟩
theorem eX1_sure_20 : DJ cX1_sure 20 (.if_icmp .ne) 26 23 := ⟨6, by decide +kernel, by decide, rfl⟩
theorem eX1_sure_23 : DC cX1_sure 23 (-2) 25 := Or.inr (Or.inl ⟨-2, ⟨by decide +kernel, rfl⟩, by decide⟩)
theorem eX1_sure_25 : D1 cX1_sure 25 (.ireturn) 26 := ⟨by decide +kernel, rfl⟩
theorem eX1_sure_26 : DC cX1_sure 26 (0) 27 := Or.inl ⟨0, ⟨by decide +kernel, rfl⟩, by decide⟩
theorem eX1_sure_27 : D1 cX1_sure 27 (.istore_n 3) 28 := ⟨by decide +kernel, rfl⟩
theorem eX1_sure_28 : DC cX1_sure 28 (0) 29 := Or.inl ⟨0, ⟨by decide +kernel, rfl⟩, by decide⟩
theorem eX1_sure_29 : D2 cX1_sure 29 (.istore 4) 31 := ⟨by decide +kernel, rfl⟩
theorem eX1_sure_31 : DC cX1_sure 31 (0) 32 := Or.inl ⟨0, ⟨by decide +kernel, rfl⟩, by decide⟩
theorem eX1_sure_32 : D2 cX1_sure 32 (.istore 5) 34 := ⟨by decide +kernel, rfl⟩
theorem eX1_sure_34 : D2 cX1_sure 34 (.iload 5) 36 := ⟨by decide +kernel, rfl⟩
theorem eX1_sure_36 : D1 cX1_sure 36 (.aload_n 0) 37 := ⟨by decide +kernel, rfl⟩
theorem eX1_sure_37 : D3 cX1_sure 37 (.getfield 180) 40 := ⟨by decide +kernel, rfl⟩
theorem eX1_sure_40 : DJ cX1_sure 40 (.if_icmp .ge) 149 43 := ⟨109, by decide +kernel, by decide, rfl⟩
theorem eX1_sure_43 : D1 cX1_sure 43 (.aload_n 0) 44 := ⟨by decide +kernel, rfl⟩
theorem eX1_sure_44 : D3 cX1_sure 44 (.getfield 41) 47 := ⟨by decide +kernel, rfl⟩
theorem eX1_sure_47 : D2 cX1_sure 47 (.iload 5) 49 := ⟨by decide +kernel, rfl⟩
theorem eX1_sure_49 : D1 cX1_sure 49 (.iaload) 50 := ⟨by decide +kernel, rfl⟩
theorem eX1_sure_50 : D1 cX1_sure 50 (.iload_n 1) 51 := ⟨by decide +kernel, rfl⟩
theorem eX1_sure_51 : DJ cX1_sure 51 (.if_icmp .ne) 75 54 := ⟨24, by decide +kernel, by decide, rfl⟩
theorem eX1_sure_54 : D1 cX1_sure 54 (.aload_n 0) 55 := ⟨by decide +kernel, rfl⟩
theorem eX1_sure_55 : D3 cX1_sure 55 (.getfield 44) 58 := ⟨by decide +kernel, rfl⟩
theorem eX1_sure_58 : D2 cX1_sure 58 (.iload 5) 60 := ⟨by decide +kernel, rfl⟩
theorem eX1_sure_60 : D1 cX1_sure 60 (.iaload) 61 := ⟨by decide +kernel, rfl⟩
theorem eX1_sure_61 : D1 cX1_sure 61 (.iload_n 2) 62 := ⟨by decide +kernel, rfl⟩
theorem eX1_sure_62 : DJ cX1_sure 62 (.if_icmp .ne) 75 65 := ⟨13, by decide +kernel, by decide, rfl⟩
theorem eX1_sure_65 : D1 cX1_sure 65 (.aload_n 0) 66 := ⟨by decide +kernel, rfl⟩
theorem eX1_sure_66 : D3 cX1_sure 66 (.getfield 47) 69 := ⟨by decide +kernel, rfl⟩
theorem eX1_sure_69 : D2 cX1_sure 69 (.iload 5) 71 := ⟨by decide +kernel, rfl⟩
theorem eX1_sure_71 : D1 cX1_sure 71 (.iaload) 72 := ⟨by decide +kernel, rfl⟩
theorem eX1_sure_72 : DJ cX1_sure 72 .goto 109 75 := ⟨37, by decide +kernel, by decide, rfl⟩
theorem eX1_sure_75 : D1 cX1_sure 75 (.aload_n 0) 76 := ⟨by decide +kernel, rfl⟩
theorem eX1_sure_76 : D3 cX1_sure 76 (.getfield 41) 79 := ⟨by decide +kernel, rfl⟩
theorem eX1_sure_79 : D2 cX1_sure 79 (.iload 5) 81 := ⟨by decide +kernel, rfl⟩
theorem eX1_sure_81 : D1 cX1_sure 81 (.iaload) 82 := ⟨by decide +kernel, rfl⟩
theorem eX1_sure_82 : D1 cX1_sure 82 (.iload_n 2) 83 := ⟨by decide +kernel, rfl⟩
theorem eX1_sure_83 : DJ cX1_sure 83 (.if_icmp .ne) 108 86 := ⟨25, by decide +kernel, by decide, rfl⟩
theorem eX1_sure_86 : D1 cX1_sure 86 (.aload_n 0) 87 := ⟨by decide +kernel, rfl⟩
theorem eX1_sure_87 : D3 cX1_sure 87 (.getfield 44) 90 := ⟨by decide +kernel, rfl⟩
theorem eX1_sure_90 : D2 cX1_sure 90 (.iload 5) 92 := ⟨by decide +kernel, rfl⟩
theorem eX1_sure_92 : D1 cX1_sure 92 (.iaload) 93 := ⟨by decide +kernel, rfl⟩
theorem eX1_sure_93 : D1 cX1_sure 93 (.iload_n 1) 94 := ⟨by decide +kernel, rfl⟩
theorem eX1_sure_94 : DJ cX1_sure 94 (.if_icmp .ne) 108 97 := ⟨14, by decide +kernel, by decide, rfl⟩
theorem eX1_sure_97 : D1 cX1_sure 97 (.aload_n 0) 98 := ⟨by decide +kernel, rfl⟩
theorem eX1_sure_98 : D3 cX1_sure 98 (.getfield 47) 101 := ⟨by decide +kernel, rfl⟩
theorem eX1_sure_101 : D2 cX1_sure 101 (.iload 5) 103 := ⟨by decide +kernel, rfl⟩
theorem eX1_sure_103 : D1 cX1_sure 103 (.iaload) 104 := ⟨by decide +kernel, rfl⟩
theorem eX1_sure_104 : D1 cX1_sure 104 (.ineg) 105 := ⟨by decide +kernel, rfl⟩
theorem eX1_sure_105 : DJ cX1_sure 105 .goto 109 108 := ⟨4, by decide +kernel, by decide, rfl⟩
theorem eX1_sure_108 : DC cX1_sure 108 (0) 109 := Or.inl ⟨0, ⟨by decide +kernel, rfl⟩, by decide⟩
theorem eX1_sure_109 : D2 cX1_sure 109 (.istore 6) 111 := ⟨by decide +kernel, rfl⟩
theorem eX1_sure_111 : D1 cX1_sure 111 (.iload_n 3) 112 := ⟨by decide +kernel, rfl⟩
theorem eX1_sure_112 : DJ cX1_sure 112 (.ifCond .ne) 120 115 := ⟨8, by decide +kernel, by decide, rfl⟩
theorem eX1_sure_115 : D2 cX1_sure 115 (.iload 6) 117 := ⟨by decide +kernel, rfl⟩
theorem eX1_sure_117 : DJ cX1_sure 117 (.ifCond .le) 124 120 := ⟨7, by decide +kernel, by decide, rfl⟩
theorem eX1_sure_120 : DC cX1_sure 120 (1) 121 := Or.inl ⟨1, ⟨by decide +kernel, rfl⟩, by decide⟩
theorem eX1_sure_121 : DJ cX1_sure 121 .goto 125 124 := ⟨4, by decide +kernel, by decide, rfl⟩
theorem eX1_sure_124 : DC cX1_sure 124 (0) 125 := Or.inl ⟨0, ⟨by decide +kernel, rfl⟩, by decide⟩
theorem eX1_sure_125 : D1 cX1_sure 125 (.istore_n 3) 126 := ⟨by decide +kernel, rfl⟩
theorem eX1_sure_126 : D2 cX1_sure 126 (.iload 4) 128 := ⟨by decide +kernel, rfl⟩
theorem eX1_sure_128 : DJ cX1_sure 128 (.ifCond .ne) 136 131 := ⟨8, by decide +kernel, by decide, rfl⟩
theorem eX1_sure_131 : D2 cX1_sure 131 (.iload 6) 133 := ⟨by decide +kernel, rfl⟩
theorem eX1_sure_133 : DJ cX1_sure 133 (.ifCond .ge) 140 136 := ⟨7, by decide +kernel, by decide, rfl⟩
theorem eX1_sure_136 : DC cX1_sure 136 (1) 137 := Or.inl ⟨1, ⟨by decide +kernel, rfl⟩, by decide⟩
theorem eX1_sure_137 : DJ cX1_sure 137 .goto 141 140 := ⟨4, by decide +kernel, by decide, rfl⟩
theorem eX1_sure_140 : DC cX1_sure 140 (0) 141 := Or.inl ⟨0, ⟨by decide +kernel, rfl⟩, by decide⟩
theorem eX1_sure_141 : D2 cX1_sure 141 (.istore 4) 143 := ⟨by decide +kernel, rfl⟩
theorem eX1_sure_143 : D3 cX1_sure 143 (.iinc 5 1) 146 := ⟨by decide +kernel, rfl⟩
theorem eX1_sure_146 : DJ cX1_sure 146 .goto 34 149 := ⟨-112, by decide +kernel, by decide, rfl⟩
theorem eX1_sure_149 : D1 cX1_sure 149 (.iload_n 3) 150 := ⟨by decide +kernel, rfl⟩
theorem eX1_sure_150 : DJ cX1_sure 150 (.ifCond .eq) 162 153 := ⟨12, by decide +kernel, by decide, rfl⟩
theorem eX1_sure_153 : D2 cX1_sure 153 (.iload 4) 155 := ⟨by decide +kernel, rfl⟩
theorem eX1_sure_155 : DJ cX1_sure 155 (.ifCond .ne) 162 158 := ⟨7, by decide +kernel, by decide, rfl⟩
theorem eX1_sure_158 : DC cX1_sure 158 (1) 159 := Or.inl ⟨1, ⟨by decide +kernel, rfl⟩, by decide⟩
theorem eX1_sure_159 : DJ cX1_sure 159 .goto 176 162 := ⟨17, by decide +kernel, by decide, rfl⟩
theorem eX1_sure_162 : D2 cX1_sure 162 (.iload 4) 164 := ⟨by decide +kernel, rfl⟩
theorem eX1_sure_164 : DJ cX1_sure 164 (.ifCond .eq) 175 167 := ⟨11, by decide +kernel, by decide, rfl⟩
theorem eX1_sure_167 : D1 cX1_sure 167 (.iload_n 3) 168 := ⟨by decide +kernel, rfl⟩
theorem eX1_sure_168 : DJ cX1_sure 168 (.ifCond .ne) 175 171 := ⟨7, by decide +kernel, by decide, rfl⟩
theorem eX1_sure_171 : DC cX1_sure 171 (2) 172 := Or.inl ⟨2, ⟨by decide +kernel, rfl⟩, by decide⟩
theorem eX1_sure_172 : DJ cX1_sure 172 .goto 176 175 := ⟨4, by decide +kernel, by decide, rfl⟩
theorem eX1_sure_175 : DC cX1_sure 175 (0) 176 := Or.inl ⟨0, ⟨by decide +kernel, rfl⟩, by decide⟩
theorem eX1_sure_176 : D1 cX1_sure 176 (.ireturn) 177 := ⟨by decide +kernel, rfl⟩
theorem eX1_mayBeOut_0 : D1 cX1_mayBeOut 0 (.aload_n 0) 1 := ⟨by decide +kernel, rfl⟩
theorem eX1_mayBeOut_1 : D3 cX1_mayBeOut 1 (.getfield 22) 4 := ⟨by decide +kernel, rfl⟩
theorem eX1_mayBeOut_4 : D1 cX1_mayBeOut 4 (.iload_n 1) 5 := ⟨by decide +kernel, rfl⟩
theorem eX1_mayBeOut_5 : D1 cX1_mayBeOut 5 (.baload) 6 := ⟨by decide +kernel, rfl⟩
theorem eX1_mayBeOut_6 : DJ cX1_mayBeOut 6 (.ifCond .ne) 29 9 := ⟨23, by decide +kernel, by decide, rfl⟩
theorem eX1_mayBeOut_9 : D1 cX1_mayBeOut 9 (.aload_n 0) 10 := ⟨by decide +kernel, rfl⟩
theorem eX1_mayBeOut_10 : D3 cX1_mayBeOut 10 (.getfield 7) 13 := ⟨by decide +kernel, rfl⟩
theorem eX1_mayBeOut_13 : D1 cX1_mayBeOut 13 (.iload_n 1) 14 := ⟨by decide +kernel, rfl⟩
theorem eX1_mayBeOut_14 : D1 cX1_mayBeOut 14 (.iaload) 15 := ⟨by decide +kernel, rfl⟩
theorem eX1_mayBeOut_15 : DC cX1_mayBeOut 15 (4) 16 := Or.inl ⟨4, ⟨by decide +kernel, rfl⟩, by decide⟩
theorem eX1_mayBeOut_16 : DJ cX1_mayBeOut 16 (.if_icmp .ne) 25 19 := ⟨9, by decide +kernel, by decide, rfl⟩
theorem eX1_mayBeOut_19 : D1 cX1_mayBeOut 19 (.iload_n 2) 20 := ⟨by decide +kernel, rfl⟩
theorem eX1_mayBeOut_20 : DC cX1_mayBeOut 20 (7) 22 := Or.inr (Or.inl ⟨7, ⟨by decide +kernel, rfl⟩, by decide⟩)
theorem eX1_mayBeOut_22 : DJ cX1_mayBeOut 22 (.if_icmp .lt) 29 25 := ⟨7, by decide +kernel, by decide, rfl⟩
theorem eX1_mayBeOut_25 : DC cX1_mayBeOut 25 (1) 26 := Or.inl ⟨1, ⟨by decide +kernel, rfl⟩, by decide⟩
theorem eX1_mayBeOut_26 : DJ cX1_mayBeOut 26 .goto 30 29 := ⟨4, by decide +kernel, by decide, rfl⟩
theorem eX1_mayBeOut_29 : DC cX1_mayBeOut 29 (0) 30 := Or.inl ⟨0, ⟨by decide +kernel, rfl⟩, by decide⟩
theorem eX1_mayBeOut_30 : D1 cX1_mayBeOut 30 (.ireturn) 31 := ⟨by decide +kernel, rfl⟩
theorem eX1_canSit_0 : D1 cX1_canSit 0 (.aload_n 0) 1 := ⟨by decide +kernel, rfl⟩
theorem eX1_canSit_1 : D3 cX1_canSit 1 (.getfield 16) 4 := ⟨by decide +kernel, rfl⟩
theorem eX1_canSit_4 : D1 cX1_canSit 4 (.iload_n 1) 5 := ⟨by decide +kernel, rfl⟩
theorem eX1_canSit_5 : D1 cX1_canSit 5 (.iaload) 6 := ⟨by decide +kernel, rfl⟩
theorem eX1_canSit_6 : DJ cX1_canSit 6 (.ifCond .lt) 30 9 := ⟨24, by decide +kernel, by decide, rfl⟩
theorem eX1_canSit_9 : D1 cX1_canSit 9 (.aload_n 0) 10 := ⟨by decide +kernel, rfl⟩
theorem eX1_canSit_10 : D3 cX1_canSit 10 (.getfield 16) 13 := ⟨by decide +kernel, rfl⟩
theorem eX1_canSit_13 : D1 cX1_canSit 13 (.iload_n 1) 14 := ⟨by decide +kernel, rfl⟩
theorem eX1_canSit_14 : D1 cX1_canSit 14 (.iaload) 15 := ⟨by decide +kernel, rfl⟩
theorem eX1_canSit_15 : D1 cX1_canSit 15 (.iload_n 2) 16 := ⟨by decide +kernel, rfl⟩
theorem eX1_canSit_16 : DJ cX1_canSit 16 (.if_icmp .ne) 34 19 := ⟨18, by decide +kernel, by decide, rfl⟩
theorem eX1_canSit_19 : D1 cX1_canSit 19 (.aload_n 0) 20 := ⟨by decide +kernel, rfl⟩
theorem eX1_canSit_20 : D3 cX1_canSit 20 (.getfield 19) 23 := ⟨by decide +kernel, rfl⟩
theorem eX1_canSit_23 : D1 cX1_canSit 23 (.iload_n 1) 24 := ⟨by decide +kernel, rfl⟩
theorem eX1_canSit_24 : D1 cX1_canSit 24 (.iaload) 25 := ⟨by decide +kernel, rfl⟩
theorem eX1_canSit_25 : DC cX1_canSit 25 (8) 27 := Or.inr (Or.inl ⟨8, ⟨by decide +kernel, rfl⟩, by decide⟩)
theorem eX1_canSit_27 : DJ cX1_canSit 27 (.if_icmp .eq) 34 30 := ⟨7, by decide +kernel, by decide, rfl⟩
theorem eX1_canSit_30 : DC cX1_canSit 30 (1) 31 := Or.inl ⟨1, ⟨by decide +kernel, rfl⟩, by decide⟩
theorem eX1_canSit_31 : DJ cX1_canSit 31 .goto 35 34 := ⟨4, by decide +kernel, by decide, rfl⟩
theorem eX1_canSit_34 : DC cX1_canSit 34 (0) 35 := Or.inl ⟨0, ⟨by decide +kernel, rfl⟩, by decide⟩
theorem eX1_canSit_35 : D2 cX1_canSit 35 (.istore 4) 37 := ⟨by decide +kernel, rfl⟩
theorem eX1_canSit_37 : D2 cX1_canSit 37 (.iload 4) 39 := ⟨by decide +kernel, rfl⟩
theorem eX1_canSit_39 : DJ cX1_canSit 39 (.ifCond .eq) 55 42 := ⟨16, by decide +kernel, by decide, rfl⟩
theorem eX1_canSit_42 : D1 cX1_canSit 42 (.aload_n 0) 43 := ⟨by decide +kernel, rfl⟩
theorem eX1_canSit_43 : D1 cX1_canSit 43 (.iload_n 1) 44 := ⟨by decide +kernel, rfl⟩
theorem eX1_canSit_44 : D1 cX1_canSit 44 (.iload_n 3) 45 := ⟨by decide +kernel, rfl⟩
theorem eX1_canSit_45 : D3 cX1_canSit 45 (.invokevirtual 221) 48 := ⟨by decide +kernel, rfl⟩
theorem eX1_canSit_48 : DJ cX1_canSit 48 (.ifCond .eq) 55 51 := ⟨7, by decide +kernel, by decide, rfl⟩
theorem eX1_canSit_51 : DC cX1_canSit 51 (1) 52 := Or.inl ⟨1, ⟨by decide +kernel, rfl⟩, by decide⟩
theorem eX1_canSit_52 : DJ cX1_canSit 52 .goto 56 55 := ⟨4, by decide +kernel, by decide, rfl⟩
theorem eX1_canSit_55 : DC cX1_canSit 55 (0) 56 := Or.inl ⟨0, ⟨by decide +kernel, rfl⟩, by decide⟩
theorem eX1_canSit_56 : D1 cX1_canSit 56 (.ireturn) 57 := ⟨by decide +kernel, rfl⟩
def sM_determinant_L72 (a1 : Int32) (x8 : Int32) (x12 : Int32) (self14 : Int32 → Wd → Option (Int64 × Wd)) : Int32 → Wd → Option (Int64 × Wd) :=
  fx (fun _ _ => none) (fun self22 x20 w21 =>
    if (w21.2.1 90 22) ≤ x20 then (nm (x12 + (-1 : Int32)) fun x23 => self14 x23 w21) else (if ((x12 >>> (x20 &&& 31)) &&& (1 : Int32)) = (1 : Int32) then (nm (x20 + (1 : Int32)) fun x36 => self22 x36 w21) else (rd (inb x12 128) (w21.2.2 20 (Int32.toNatClampNeg x12)) fun v24 => jn (fun z25 => nm (v24 * z25) fun x27 => rd (inb (x12 ||| ((1 : Int32) <<< (x20 &&& 31))) 128) (w21.2.2 20 (Int32.toNatClampNeg (x12 ||| ((1 : Int32) <<< (x20 &&& 31))))) fun v28 => bd (sM_bits (x12 >>> ((x20 + (1 : Int32)) &&& 31))) fun v29 => jn (fun z30 => rd (inb (x12 ||| ((1 : Int32) <<< (x20 &&& 31))) 128) (stL w21 20 (Int32.toNatClampNeg (x12 ||| ((1 : Int32) <<< (x20 &&& 31)))) (v28 + z30)) fun w32 => nm (x20 + (1 : Int32)) fun x33 => self22 x33 w32) fun J31 => if (irm v29 (2 : Int32)) = (1 : Int32) then (J31 (-x27)) else (J31 x27)) fun J26 => if x20 = a1 then (rd (inb x8 7) (w21.2.2 19 (Int32.toNatClampNeg x8)) fun v35 => J26 v35) else (rd (inb (((7 : Int32) * x8) + x20) 49) (w21.2.2 18 (Int32.toNatClampNeg (((7 : Int32) * x8) + x20))) fun v34 => J26 v34)))) FU
def sM_determinant_L43 (a1 : Int32) (x8 : Int32) (self10 : Int32 → Wd → Option (Int64 × Wd)) : Int32 → Wd → Option (Int64 × Wd) :=
  fx (fun _ _ => none) (fun self14 x12 w13 =>
    if x12 < 0 then (nm (x8 + (1 : Int32)) fun x15 => self10 x15 w13) else (bd (sM_bits x12) fun v16 => if v16 = x8 then (rd (inb x12 128) (w13.2.2 20 (Int32.toNatClampNeg x12)) fun v18 => if v18 = (0 : Int64) then (nm (x12 + (-1 : Int32)) fun x37 => self14 x37 w13) else (nm (0 : Int32) fun x19 => sM_determinant_L72 a1 x8 x12 self14 x19 w13)) else (nm (x12 + (-1 : Int32)) fun x17 => self14 x17 w13))) FU
def sM_determinant_L32 (a1 : Int32) (J6 : Wd → Option (Int64 × Wd)) : Int32 → Wd → Option (Int64 × Wd) :=
  fx (fun _ _ => none) (fun self10 x8 w9 =>
    if (w9.2.1 90 22) ≤ x8 then (J6 w9) else (nm (127 : Int32) fun x11 => sM_determinant_L43 a1 x8 self10 x11 w9)) FU
def sM_determinant_L2 (J3 : Wd → Option (Int64 × Wd)) : Int32 → Wd → Option (Int64 × Wd) :=
  fx (fun _ _ => none) (fun self40 x38 w39 =>
    if (128 : Int32) ≤ x38 then (J3 w39) else (jn (fun z41 => rd (inb x38 128) (stL w39 20 (Int32.toNatClampNeg x38) z41) fun w43 => nm (x38 + (1 : Int32)) fun x44 => self40 x44 w43) fun J42 => if x38 = 0 then (J42 (1 : Int64)) else (J42 (0 : Int64)))) FU
def sM_determinant (w : Wd) (a1 : Int32) : Option (Int64 × Wd) :=
  nm (0 : Int32) fun x1 => jn (fun w2 => nm (0 : Int32) fun x4 => jn (fun w5 => rd (inb (((1 : Int32) <<< ((w5.2.1 90 22) &&& 31)) - (1 : Int32)) 128) (w5.2.2 20 (Int32.toNatClampNeg (((1 : Int32) <<< ((w5.2.1 90 22) &&& 31)) - (1 : Int32)))) fun v7 => some (v7, w5)) fun J6 => sM_determinant_L32 a1 J6 x4 w2) fun J3 => sM_determinant_L2 J3 x1 w
abbrev rmX1_determinant : Room := { frames := 1, cells := 0, slots := 0, locals := 22 }
theorem pkX1_determinant : PkV yX1_determinant RX1 cX1_determinant 7 (some .long) 1 := ⟨q1007, qs37, q58, q1008, by decide +kernel⟩
set_option maxHeartbeats 4000000 in
theorem met_X1_determinant (l : Launch) (D : va_G) (g : Nat → ClassId) (ad : Nat → Nat) (w : Wd) (a1 : Int32) (sz : Nat) (r : Int64) (w' : Wd) (ho : sM_determinant w a1 = some (r, w')) : Met l yX1_determinant (ws_ yX1_determinant cX1_determinant 7 (some .long)) rmX1_determinant (va_Pc [.ref (ad 99), .int a1] (MPre D vwCl (tysG g) (cellsM g ad w) NT sz)) (QcL D vwCl (tysG g) (cellsM g ad w') r (va_A (cellsM g ad w) sz)) 0 0 (va_A (cellsM g ad w) sz) := by
  refine met_XJ (cw := cellsM g ad) (w := w) (cc := cX1_determinant) (lv := [(0, .ref (ad 99)), (1, .int a1)]) pnX1 _ (Nat.le_of_ble_eq_true rfl) rfl ?_
  intro p e s m args below meth c R Q A B hN hr hsz hA hmm hRm hQ hAe
  unfold sM_determinant at ho
  refine j_const B eX1_determinant_0 ?_
  refine j_istore_n (lv' := fun x1 => [(0, .ref (ad 99)), (1, .int a1), (2, .int x1)]) B eX1_determinant_1 [1, 2, 0] (by decide) (fun _ => rfl) ho (fun x1 ho => ?_)
  refine jn1 (C := fun w2 => XJ p l e R s m args below meth c 0 0 Q A D vwCl (cellsM g ad) 7 w2 30 [(0, .ref (ad 99)), (1, .int a1)] []) ho (fun w2 ho => ?_) (fun J3 hJ3 ho => ?_)
  · refine j_const B eX1_determinant_30 ?_
    refine j_istore_n (lv' := fun x4 => [(0, .ref (ad 99)), (1, .int a1), (2, .int x4)]) B eX1_determinant_31 [1, 2, 0] (by decide) (fun _ => rfl) ho (fun x4 ho => ?_)
    refine jn1 (C := fun w5 => XJ p l e R s m args below meth c 0 0 Q A D vwCl (cellsM g ad) 7 w5 185 [(0, .ref (ad 99))] []) ho (fun w5 ho => ?_) (fun J6 hJ6 ho => ?_)
    · refine j_aload_n B eX1_determinant_185 0 rfl ?_
      refine gfM_20 B eX1_determinant_186 ?_
      refine j_const B eX1_determinant_189 ?_
      refine j_aload_n B eX1_determinant_190 0 rfl ?_
      refine gfM_22 B eX1_determinant_191 ?_
      refine j_ishl B eX1_determinant_194 ?_
      refine j_const B eX1_determinant_195 ?_
      refine j_isub B eX1_determinant_196 ?_
      refine ldM_20 B eX1_determinant_197 ho (fun v7 ho => ?_)
      exact j_lretw B hr hQ eX1_determinant_198 ho
    · unfold sM_determinant_L32 at ho
      refine fx2 (C := fun x8 w9 => XJ p l e R s m args below meth c 0 0 Q A D vwCl (cellsM g ad) 7 w9 32 [(0, .ref (ad 99)), (1, .int a1), (2, .int x8)] []) (fun self10 hself10 x8 w9 ho => ?_) FU _ _ ho
      refine j_iload_n B eX1_determinant_32 2 rfl ?_
      refine j_aload_n B eX1_determinant_33 0 rfl ?_
      refine gfM_22 B eX1_determinant_34 ?_
      refine j_icmp_ge B eX1_determinant_37 ho (fun _ ho => ?_) (fun _ ho => ?_)
      · refine j_lsub (lv' := [(0, .ref (ad 99))]) [0] rfl ?_
        exact hJ6 _ ho
      · refine j_const B eX1_determinant_40 ?_
        refine j_istore_n (lv' := fun x11 => [(0, .ref (ad 99)), (1, .int a1), (2, .int x8), (3, .int x11)]) B eX1_determinant_42 [1, 2, 3, 0] (by decide) (fun _ => rfl) ho (fun x11 ho => ?_)
        unfold sM_determinant_L43 at ho
        refine fx2 (C := fun x12 w13 => XJ p l e R s m args below meth c 0 0 Q A D vwCl (cellsM g ad) 7 w13 43 [(0, .ref (ad 99)), (1, .int a1), (2, .int x8), (3, .int x12)] []) (fun self14 hself14 x12 w13 ho => ?_) FU _ _ ho
        refine j_iload_n B eX1_determinant_43 3 rfl ?_
        refine j_if_lt B eX1_determinant_44 ho (fun _ ho => ?_) (fun _ ho => ?_)
        · refine j_iinc (d := 1) (lv' := fun x15 => [(0, .ref (ad 99)), (1, .int a1), (2, .int x15)]) B eX1_determinant_179 2 rfl (by decide) [1, 2, 0] (by decide) (fun _ => rfl) ho (fun x15 ho => ?_)
          refine j_goto B eX1_determinant_182 ?_
          exact hself10 _ _ ho
        · refine j_iload_n B eX1_determinant_47 3 rfl ?_
          refine j_callSi (As := [.int x12]) B hA (met_X1_bits l D _ _ _ x12) NT_ok pkX1_bits q1009 rfl rfl hRm ⟨Nat.le_of_ble_eq_true rfl, Nat.le_of_ble_eq_true rfl⟩ rfl rfl (Nat.le_of_ble_eq_true rfl) ⟨Nat.zero_le _, Nat.zero_le _⟩ eX1_determinant_48 ho (fun v16 ho => ?_)
          refine j_iload_n B eX1_determinant_51 2 rfl ?_
          refine j_icmp_ne B eX1_determinant_52 ho (fun _ ho => ?_) (fun _ ho => ?_)
          · refine j_iinc (d := -1) (lv' := fun x17 => [(0, .ref (ad 99)), (1, .int a1), (2, .int x8), (3, .int x17)]) B eX1_determinant_173 3 rfl (by decide) [1, 2, 3, 0] (by decide) (fun _ => rfl) ho (fun x17 ho => ?_)
            refine j_goto B eX1_determinant_176 ?_
            exact hself14 _ _ ho
          · refine j_aload_n B eX1_determinant_55 0 rfl ?_
            refine gfM_20 B eX1_determinant_56 ?_
            refine j_iload_n B eX1_determinant_59 3 rfl ?_
            refine ldM_20 B eX1_determinant_60 ho (fun v18 ho => ?_)
            refine j_lconst (v := 0) B eX1_determinant_61 rfl ?_
            refine j_lcmp_ne B eX1_determinant_62 eX1_determinant_63 ho (fun _ ho => ?_) (fun _ ho => ?_)
            · refine j_const B eX1_determinant_69 ?_
              refine j_istore (lv' := fun x19 => [(0, .ref (ad 99)), (1, .int a1), (2, .int x8), (3, .int x12), (4, .int x19)]) B eX1_determinant_70 [1, 2, 3, 4, 0] (by decide) (fun _ => rfl) ho (fun x19 ho => ?_)
              unfold sM_determinant_L72 at ho
              refine fx2 (C := fun x20 w21 => XJ p l e R s m args below meth c 0 0 Q A D vwCl (cellsM g ad) 7 w21 72 [(0, .ref (ad 99)), (1, .int a1), (2, .int x8), (3, .int x12), (4, .int x20)] []) (fun self22 hself22 x20 w21 ho => ?_) FU _ _ ho
              refine j_iload B eX1_determinant_72 4 rfl ?_
              refine j_aload_n B eX1_determinant_74 0 rfl ?_
              refine gfM_22 B eX1_determinant_75 ?_
              refine j_icmp_ge B eX1_determinant_78 ho (fun _ ho => ?_) (fun _ ho => ?_)
              · refine j_iinc (d := -1) (lv' := fun x23 => [(0, .ref (ad 99)), (1, .int a1), (2, .int x8), (3, .int x23)]) B eX1_determinant_173 3 rfl (by decide) [1, 2, 3, 0] (by decide) (fun _ => rfl) ho (fun x23 ho => ?_)
                refine j_goto B eX1_determinant_176 ?_
                exact hself14 _ _ ho
              · refine j_iload_n B eX1_determinant_81 3 rfl ?_
                refine j_iload B eX1_determinant_82 4 rfl ?_
                refine j_ishr B eX1_determinant_84 ?_
                refine j_const B eX1_determinant_85 ?_
                refine j_iand B eX1_determinant_86 ?_
                refine j_const B eX1_determinant_87 ?_
                refine j_icmp_ne B eX1_determinant_88 ho (fun _ ho => ?_) (fun _ ho => ?_)
                · refine j_aload_n B eX1_determinant_94 0 rfl ?_
                  refine gfM_20 B eX1_determinant_95 ?_
                  refine j_iload_n B eX1_determinant_98 3 rfl ?_
                  refine ldM_20 B eX1_determinant_99 ho (fun v24 ho => ?_)
                  refine j_iload B eX1_determinant_100 4 rfl ?_
                  refine j_iload_n B eX1_determinant_102 1 rfl ?_
                  refine jn1 (C := fun z25 => XJ p l e R s m args below meth c 0 0 Q A D vwCl (cellsM g ad) 7 w21 127 [(0, .ref (ad 99)), (1, .int a1), (2, .int x8), (3, .int x12), (4, .int x20)] [.long z25, .long v24]) ho (fun z25 ho => ?_) (fun J26 hJ26 ho => ?_)
                  · refine j_lmul B eX1_determinant_127 ?_
                    refine j_lstore (lv' := fun x27 => [(0, .ref (ad 99)), (1, .int a1), (2, .int x8), (3, .int x12), (4, .int x20), (5, .long x27)]) B eX1_determinant_128 [1, 2, 3, 4, 5, 0] (by decide) (fun _ => rfl) ho (fun x27 ho => ?_)
                    refine j_aload_n B eX1_determinant_130 0 rfl ?_
                    refine gfM_20 B eX1_determinant_131 ?_
                    refine j_iload_n B eX1_determinant_134 3 rfl ?_
                    refine j_const B eX1_determinant_135 ?_
                    refine j_iload B eX1_determinant_136 4 rfl ?_
                    refine j_ishl B eX1_determinant_138 ?_
                    refine j_ior B eX1_determinant_139 ?_
                    refine j_dup2 B eX1_determinant_140 rfl rfl ?_
                    refine ldM_20 B eX1_determinant_141 ho (fun v28 ho => ?_)
                    refine j_iload_n B eX1_determinant_142 3 rfl ?_
                    refine j_iload B eX1_determinant_143 4 rfl ?_
                    refine j_const B eX1_determinant_145 ?_
                    refine j_iadd B eX1_determinant_146 ?_
                    refine j_ishr B eX1_determinant_147 ?_
                    refine j_callSi (As := [.int (x12 >>> ((x20 + (1 : Int32)) &&& 31))]) B hA (met_X1_bits l D _ _ _ (x12 >>> ((x20 + (1 : Int32)) &&& 31))) NT_ok pkX1_bits q1009 rfl rfl hRm ⟨Nat.le_of_ble_eq_true rfl, Nat.le_of_ble_eq_true rfl⟩ rfl rfl (Nat.le_of_ble_eq_true rfl) ⟨Nat.zero_le _, Nat.zero_le _⟩ eX1_determinant_148 ho (fun v29 ho => ?_)
                    refine j_const B eX1_determinant_151 ?_
                    refine j_irm B eX1_determinant_152 (by decide) ?_
                    refine j_const B eX1_determinant_153 ?_
                    refine jn1 (C := fun z30 => XJ p l e R s m args below meth c 0 0 Q A D vwCl (cellsM g ad) 7 w21 165 [(0, .ref (ad 99)), (1, .int a1), (2, .int x8), (3, .int x12), (4, .int x20)] [.long z30, .long v28, .int (x12 ||| ((1 : Int32) <<< (x20 &&& 31))), .ref (ad 20)]) ho (fun z30 ho => ?_) (fun J31 hJ31 ho => ?_)
                    · refine j_ladd B eX1_determinant_165 ?_
                      refine stM_20 B eX1_determinant_166 ho (fun w32 ho => ?_)
                      refine j_iinc (d := 1) (lv' := fun x33 => [(0, .ref (ad 99)), (1, .int a1), (2, .int x8), (3, .int x12), (4, .int x33)]) B eX1_determinant_167 4 rfl (by decide) [1, 2, 3, 4, 0] (by decide) (fun _ => rfl) ho (fun x33 ho => ?_)
                      refine j_goto B eX1_determinant_170 ?_
                      exact hself22 _ _ ho
                    · refine j_icmp_ne B eX1_determinant_154 ho (fun _ ho => ?_) (fun _ ho => ?_)
                      · refine j_lload B eX1_determinant_163 5 rfl ?_
                        refine j_lsub (lv' := [(0, .ref (ad 99)), (1, .int a1), (2, .int x8), (3, .int x12), (4, .int x20)]) [0, 1, 2, 3, 4] rfl ?_
                        exact hJ31 _ ho
                      · refine j_lload B eX1_determinant_157 5 rfl ?_
                        refine j_lneg B eX1_determinant_159 ?_
                        refine j_goto B eX1_determinant_160 ?_
                        refine j_lsub (lv' := [(0, .ref (ad 99)), (1, .int a1), (2, .int x8), (3, .int x12), (4, .int x20)]) [0, 1, 2, 3, 4] rfl ?_
                        exact hJ31 _ ho
                  · refine j_icmp_ne B eX1_determinant_103 ho (fun _ ho => ?_) (fun _ ho => ?_)
                    · refine j_aload_n B eX1_determinant_115 0 rfl ?_
                      refine gfM_18 B eX1_determinant_116 ?_
                      refine j_const B eX1_determinant_119 ?_
                      refine j_iload_n B eX1_determinant_121 2 rfl ?_
                      refine j_imul B eX1_determinant_122 ?_
                      refine j_iload B eX1_determinant_123 4 rfl ?_
                      refine j_iadd B eX1_determinant_125 ?_
                      refine ldM_18 B eX1_determinant_126 ho (fun v34 ho => ?_)
                      exact hJ26 _ ho
                    · refine j_aload_n B eX1_determinant_106 0 rfl ?_
                      refine gfM_19 B eX1_determinant_107 ?_
                      refine j_iload_n B eX1_determinant_110 2 rfl ?_
                      refine ldM_19 B eX1_determinant_111 ho (fun v35 ho => ?_)
                      refine j_goto B eX1_determinant_112 ?_
                      exact hJ26 _ ho
                · refine j_goto B eX1_determinant_91 ?_
                  refine j_iinc (d := 1) (lv' := fun x36 => [(0, .ref (ad 99)), (1, .int a1), (2, .int x8), (3, .int x12), (4, .int x36)]) B eX1_determinant_167 4 rfl (by decide) [1, 2, 3, 4, 0] (by decide) (fun _ => rfl) ho (fun x36 ho => ?_)
                  refine j_goto B eX1_determinant_170 ?_
                  exact hself22 _ _ ho
            · refine j_goto B eX1_determinant_66 ?_
              refine j_iinc (d := -1) (lv' := fun x37 => [(0, .ref (ad 99)), (1, .int a1), (2, .int x8), (3, .int x37)]) B eX1_determinant_173 3 rfl (by decide) [1, 2, 3, 0] (by decide) (fun _ => rfl) ho (fun x37 ho => ?_)
              refine j_goto B eX1_determinant_176 ?_
              exact hself14 _ _ ho
  · unfold sM_determinant_L2 at ho
    refine fx2 (C := fun x38 w39 => XJ p l e R s m args below meth c 0 0 Q A D vwCl (cellsM g ad) 7 w39 2 [(0, .ref (ad 99)), (1, .int a1), (2, .int x38)] []) (fun self40 hself40 x38 w39 ho => ?_) FU _ _ ho
    refine j_iload_n B eX1_determinant_2 2 rfl ?_
    refine j_const B eX1_determinant_3 ?_
    refine j_icmp_ge B eX1_determinant_6 ho (fun _ ho => ?_) (fun _ ho => ?_)
    · refine j_lsub (lv' := [(0, .ref (ad 99)), (1, .int a1)]) [0, 1] rfl ?_
      exact hJ3 _ ho
    · refine j_aload_n B eX1_determinant_9 0 rfl ?_
      refine gfM_20 B eX1_determinant_10 ?_
      refine j_iload_n B eX1_determinant_13 2 rfl ?_
      refine j_iload_n B eX1_determinant_14 2 rfl ?_
      refine jn1 (C := fun z41 => XJ p l e R s m args below meth c 0 0 Q A D vwCl (cellsM g ad) 7 w39 23 [(0, .ref (ad 99)), (1, .int a1), (2, .int x38)] [.long z41, .int x38, .ref (ad 20)]) ho (fun z41 ho => ?_) (fun J42 hJ42 ho => ?_)
      · refine stM_20 B eX1_determinant_23 ho (fun w43 ho => ?_)
        refine j_iinc (d := 1) (lv' := fun x44 => [(0, .ref (ad 99)), (1, .int a1), (2, .int x44)]) B eX1_determinant_24 2 rfl (by decide) [1, 2, 0] (by decide) (fun _ => rfl) ho (fun x44 ho => ?_)
        refine j_goto B eX1_determinant_27 ?_
        exact hself40 _ _ ho
      · refine j_if_ne B eX1_determinant_15 ho (fun _ ho => ?_) (fun _ ho => ?_)
        · refine j_lconst (v := 0) B eX1_determinant_22 rfl ?_
          exact hJ42 _ ho
        · refine j_lconst (v := 1) B eX1_determinant_18 rfl ?_
          refine j_goto B eX1_determinant_19 ?_
          exact hJ42 _ ho
def sM_solves_L240  : Int32 → Wd → Option (Int32 × Wd) :=
  fx (fun _ _ => none) (fun self23 x21 w22 =>
    if (w22.2.1 90 10) ≤ x21 then (some ((1 : Int32), w22)) else (rd (inb x21 16) (w22.2.1 17 (Int32.toNatClampNeg x21)) fun v24 => jn (fun z25 w26 => rd (inb x21 16) (stL w26 21 (Int32.toNatClampNeg x21) z25) fun w28 => nm (x21 + (1 : Int32)) fun x29 => self23 x29 w28) fun J27 => if 0 ≤ v24 then (rd (inb x21 16) (w22.2.1 17 (Int32.toNatClampNeg x21)) fun v30 => bd2 (sM_determinant w22 v30) fun v31 w32 => J27 v31 w32) else (J27 (0 : Int64) w22))) FU
def sM_solves_L132 (x3 : Int32) (J16 : Wd → Option (Int32 × Wd)) : Int32 → Wd → Option (Int32 × Wd) :=
  fx (fun _ _ => none) (fun self35 x33 w34 =>
    if (w34.2.1 90 16) ≤ x33 then (J16 w34) else (rd (inb x33 40) (w34.2.1 12 (Int32.toNatClampNeg x33)) fun v36 => rd (inb v36 16) (w34.2.1 15 (Int32.toNatClampNeg v36)) fun v37 => if v37 = x3 then (rd (inb x33 40) (w34.2.1 12 (Int32.toNatClampNeg x33)) fun v38 => rd (inb v38 16) (w34.2.1 17 (Int32.toNatClampNeg v38)) fun v39 => rd (inb x33 40) (w34.2.1 13 (Int32.toNatClampNeg x33)) fun v40 => rd (inb v40 16) (w34.2.1 17 (Int32.toNatClampNeg v40)) fun v41 => rd (inb x33 40) (w34.2.1 14 (Int32.toNatClampNeg x33)) fun v42 => bd (sM_tells w34 v39 v41 v42) fun w43 => rd (inb x33 40) (w43.2.1 13 (Int32.toNatClampNeg x33)) fun v44 => rd (inb v44 16) (w43.2.1 17 (Int32.toNatClampNeg v44)) fun v45 => rd (inb x33 40) (w43.2.1 12 (Int32.toNatClampNeg x33)) fun v46 => rd (inb v46 16) (w43.2.1 17 (Int32.toNatClampNeg v46)) fun v47 => rd (inb x33 40) (w43.2.1 14 (Int32.toNatClampNeg x33)) fun v48 => bd (sM_tells w43 v45 v47 (-v48)) fun w49 => nm (x33 + (1 : Int32)) fun x50 => self35 x50 w49) else (nm (x33 + (1 : Int32)) fun x51 => self35 x51 w34))) FU
def sM_solves_L111 (J13 : Wd → Option (Int32 × Wd)) : Int32 → Wd → Option (Int32 × Wd) :=
  fx (fun _ _ => none) (fun self54 x52 w53 =>
    if (7 : Int32) ≤ x52 then (J13 w53) else (rd (inb x52 7) (stL w53 19 (Int32.toNatClampNeg x52) (0 : Int64)) fun w55 => nm (x52 + (1 : Int32)) fun x56 => self54 x56 w55)) FU
def sM_solves_L90 (J10 : Wd → Option (Int32 × Wd)) : Int32 → Wd → Option (Int32 × Wd) :=
  fx (fun _ _ => none) (fun self59 x57 w58 =>
    if (49 : Int32) ≤ x57 then (J10 w58) else (rd (inb x57 49) (stL w58 18 (Int32.toNatClampNeg x57) (0 : Int64)) fun w60 => nm (x57 + (1 : Int32)) fun x61 => self59 x61 w60)) FU
def sM_solves_L18 (x3 : Int32) (J7 : Wd → Option (Int32 × Wd)) : Int32 → Wd → Option (Int32 × Wd) :=
  fx (fun _ _ => none) (fun self64 x62 w63 =>
    if (w63.2.1 90 10) ≤ x62 then (J7 w63) else (rd (inb x62 16) (stG w63 17 (Int32.toNatClampNeg x62) (-1 : Int32)) fun w65 => rd (inb x62 16) (w65.2.1 15 (Int32.toNatClampNeg x62)) fun v66 => if v66 = x3 then (if x62 = x3 then (nm (x62 + (1 : Int32)) fun x71 => self64 x71 w65) else (if (w65.2.1 90 22) = (6 : Int32) then (some ((0 : Int32), w65)) else (rd (inb x62 16) (stG w65 17 (Int32.toNatClampNeg x62) (w65.2.1 90 22)) fun w68 => nm (stG w68 90 22 ((w68.2.1 90 22) + (1 : Int32))) fun w69 => nm (x62 + (1 : Int32)) fun x70 => self64 x70 w69))) else (nm (x62 + (1 : Int32)) fun x67 => self64 x67 w65))) FU
def sM_solves (w : Wd) (a1 : Int32) : Option (Int32 × Wd) :=
  bd (sM_findGroups w) fun w1 => rd (inb a1 16) (w1.2.1 15 (Int32.toNatClampNeg a1)) fun v2 => nm v2 fun x3 => nm (stG w1 90 22 (0 : Int32)) fun w4 => nm (0 : Int32) fun x5 => jn (fun w6 => nm (0 : Int32) fun x8 => jn (fun w9 => nm (0 : Int32) fun x11 => jn (fun w12 => nm (0 : Int32) fun x14 => jn (fun w15 => bd2 (sM_determinant w15 (-1 : Int32)) fun v17 w18 => nm (stL w18 90 23 v17) fun w19 => nm (0 : Int32) fun x20 => sM_solves_L240 x20 w19) fun J16 => sM_solves_L132 x3 J16 x14 w12) fun J13 => sM_solves_L111 J13 x11 w9) fun J10 => sM_solves_L90 J10 x8 w6) fun J7 => sM_solves_L18 x3 J7 x5 w4
abbrev rmX1_solves : Room := { frames := 2, cells := 0, slots := 0, locals := 48 }
theorem pkX1_solves : PkV yX1_solves RX1 cX1_solves 4 (some .boolean) 1 := ⟨q999, qs35, q58, q1000, by decide +kernel⟩
set_option maxHeartbeats 4000000 in
theorem met_X1_solves (l : Launch) (D : va_G) (g : Nat → ClassId) (ad : Nat → Nat) (w : Wd) (a1 : Int32) (sz : Nat) (r : Int32) (w' : Wd) (ho : sM_solves w a1 = some (r, w')) : Met l yX1_solves (ws_ yX1_solves cX1_solves 4 (some .boolean)) rmX1_solves (va_Pc [.ref (ad 99), .int a1] (MPre D vwCl (tysG g) (cellsM g ad w) NT sz)) (QcI D vwCl (tysG g) (cellsM g ad w') r (va_A (cellsM g ad w) sz)) 0 0 (va_A (cellsM g ad w) sz) := by
  refine met_XJ (cw := cellsM g ad) (w := w) (cc := cX1_solves) (lv := [(0, .ref (ad 99)), (1, .int a1)]) pnX1 _ (Nat.le_of_ble_eq_true rfl) rfl ?_
  intro p e s m args below meth c R Q A B hN hr hsz hA hmm hRm hQ hAe
  unfold sM_solves at ho
  refine j_aload_n B eX1_solves_0 0 rfl ?_
  refine j_callVvw (As := []) B hA (met_X1_findGroups l D g ad w) NT_ok pkX1_findGroups q989 0 rfl rfl rfl rfl hRm ⟨Nat.le_of_ble_eq_true rfl, Nat.le_of_ble_eq_true rfl⟩ rfl rfl (Nat.le_of_ble_eq_true rfl) ⟨Nat.zero_le _, Nat.zero_le _⟩ eX1_solves_1 ho (fun w1 ho => ?_)
  refine j_aload_n B eX1_solves_4 0 rfl ?_
  refine gfM_15 B eX1_solves_5 ?_
  refine j_iload_n B eX1_solves_8 1 rfl ?_
  refine ldM_15 B eX1_solves_9 ho (fun v2 ho => ?_)
  refine j_istore_n (lv' := fun x3 => [(0, .ref (ad 99)), (2, .int x3)]) B eX1_solves_10 [1, 0] (by decide) (fun _ => rfl) ho (fun x3 ho => ?_)
  refine j_aload_n B eX1_solves_11 0 rfl ?_
  refine j_const B eX1_solves_12 ?_
  refine pfM_22 B eX1_solves_13 ho (fun w4 ho => ?_)
  refine j_const B eX1_solves_16 ?_
  refine j_istore_n (lv' := fun x5 => [(0, .ref (ad 99)), (2, .int x3), (3, .int x5)]) B eX1_solves_17 [1, 2, 0] (by decide) (fun _ => rfl) ho (fun x5 ho => ?_)
  refine jn1 (C := fun w6 => XJ p l e R s m args below meth c 0 0 Q A D vwCl (cellsM g ad) 4 w6 88 [(0, .ref (ad 99)), (2, .int x3)] []) ho (fun w6 ho => ?_) (fun J7 hJ7 ho => ?_)
  · refine j_const B eX1_solves_88 ?_
    refine j_istore_n (lv' := fun x8 => [(0, .ref (ad 99)), (2, .int x3), (3, .int x8)]) B eX1_solves_89 [1, 2, 0] (by decide) (fun _ => rfl) ho (fun x8 ho => ?_)
    refine jn1 (C := fun w9 => XJ p l e R s m args below meth c 0 0 Q A D vwCl (cellsM g ad) 4 w9 109 [(0, .ref (ad 99)), (2, .int x3)] []) ho (fun w9 ho => ?_) (fun J10 hJ10 ho => ?_)
    · refine j_const B eX1_solves_109 ?_
      refine j_istore_n (lv' := fun x11 => [(0, .ref (ad 99)), (2, .int x3), (3, .int x11)]) B eX1_solves_110 [1, 2, 0] (by decide) (fun _ => rfl) ho (fun x11 ho => ?_)
      refine jn1 (C := fun w12 => XJ p l e R s m args below meth c 0 0 Q A D vwCl (cellsM g ad) 4 w12 130 [(0, .ref (ad 99)), (2, .int x3)] []) ho (fun w12 ho => ?_) (fun J13 hJ13 ho => ?_)
      · refine j_const B eX1_solves_130 ?_
        refine j_istore_n (lv' := fun x14 => [(0, .ref (ad 99)), (2, .int x3), (3, .int x14)]) B eX1_solves_131 [1, 2, 0] (by decide) (fun _ => rfl) ho (fun x14 ho => ?_)
        refine jn1 (C := fun w15 => XJ p l e R s m args below meth c 0 0 Q A D vwCl (cellsM g ad) 4 w15 229 [(0, .ref (ad 99))] []) ho (fun w15 ho => ?_) (fun J16 hJ16 ho => ?_)
        · refine j_aload_n B eX1_solves_229 0 rfl ?_
          refine j_aload_n B eX1_solves_230 0 rfl ?_
          refine j_const B eX1_solves_231 ?_
          refine j_callVlw (As := [.int (-1 : Int32)]) B hA (met_X1_determinant l D g ad w15 (-1 : Int32)) NT_ok pkX1_determinant q1005 0 rfl rfl rfl rfl hRm ⟨Nat.le_of_ble_eq_true rfl, Nat.le_of_ble_eq_true rfl⟩ rfl rfl (Nat.le_of_ble_eq_true rfl) ⟨Nat.zero_le _, Nat.zero_le _⟩ eX1_solves_232 ho (fun v17 w18 ho => ?_)
          refine pfM_23 B eX1_solves_235 ho (fun w19 ho => ?_)
          refine j_const B eX1_solves_238 ?_
          refine j_istore_n (lv' := fun x20 => [(0, .ref (ad 99)), (3, .int x20)]) B eX1_solves_239 [1, 0] (by decide) (fun _ => rfl) ho (fun x20 ho => ?_)
          unfold sM_solves_L240 at ho
          refine fx2 (C := fun x21 w22 => XJ p l e R s m args below meth c 0 0 Q A D vwCl (cellsM g ad) 4 w22 240 [(0, .ref (ad 99)), (3, .int x21)] []) (fun self23 hself23 x21 w22 ho => ?_) FU _ _ ho
          refine j_iload_n B eX1_solves_240 1 rfl ?_
          refine j_aload_n B eX1_solves_241 0 rfl ?_
          refine gfM_10 B eX1_solves_242 ?_
          refine j_icmp_ge B eX1_solves_245 ho (fun _ ho => ?_) (fun _ ho => ?_)
          · refine j_const B eX1_solves_283 ?_
            exact j_zretw B hr rfl hQ eX1_solves_284 ho
          · refine j_aload_n B eX1_solves_248 0 rfl ?_
            refine gfM_21 B eX1_solves_249 ?_
            refine j_iload_n B eX1_solves_252 1 rfl ?_
            refine j_aload_n B eX1_solves_253 0 rfl ?_
            refine gfM_17 B eX1_solves_254 ?_
            refine j_iload_n B eX1_solves_257 1 rfl ?_
            refine ldM_17 B eX1_solves_258 ho (fun v24 ho => ?_)
            refine jn2 (C := fun z25 w26 => XJ p l e R s m args below meth c 0 0 Q A D vwCl (cellsM g ad) 4 w26 276 [(0, .ref (ad 99)), (3, .int x21)] [.long z25, .int x21, .ref (ad 21)]) ho (fun z25 w26 ho => ?_) (fun J27 hJ27 ho => ?_)
            · refine stM_21 B eX1_solves_276 ho (fun w28 ho => ?_)
              refine j_iinc (d := 1) (lv' := fun x29 => [(0, .ref (ad 99)), (3, .int x29)]) B eX1_solves_277 1 rfl (by decide) [1, 0] (by decide) (fun _ => rfl) ho (fun x29 ho => ?_)
              refine j_goto B eX1_solves_280 ?_
              exact hself23 _ _ ho
            · refine j_if_ge B eX1_solves_259 ho (fun _ ho => ?_) (fun _ ho => ?_)
              · refine j_aload_n B eX1_solves_266 0 rfl ?_
                refine j_aload_n B eX1_solves_267 0 rfl ?_
                refine gfM_17 B eX1_solves_268 ?_
                refine j_iload_n B eX1_solves_271 1 rfl ?_
                refine ldM_17 B eX1_solves_272 ho (fun v30 ho => ?_)
                refine j_callVlw (As := [.int v30]) B hA (met_X1_determinant l D g ad w22 v30) NT_ok pkX1_determinant q1005 0 rfl rfl rfl rfl hRm ⟨Nat.le_of_ble_eq_true rfl, Nat.le_of_ble_eq_true rfl⟩ rfl rfl (Nat.le_of_ble_eq_true rfl) ⟨Nat.zero_le _, Nat.zero_le _⟩ eX1_solves_273 ho (fun v31 w32 ho => ?_)
                exact hJ27 _ _ ho
              · refine j_lconst (v := 0) B eX1_solves_262 rfl ?_
                refine j_goto B eX1_solves_263 ?_
                exact hJ27 _ _ ho
        · unfold sM_solves_L132 at ho
          refine fx2 (C := fun x33 w34 => XJ p l e R s m args below meth c 0 0 Q A D vwCl (cellsM g ad) 4 w34 132 [(0, .ref (ad 99)), (2, .int x3), (3, .int x33)] []) (fun self35 hself35 x33 w34 ho => ?_) FU _ _ ho
          refine j_iload_n B eX1_solves_132 2 rfl ?_
          refine j_aload_n B eX1_solves_133 0 rfl ?_
          refine gfM_16 B eX1_solves_134 ?_
          refine j_icmp_ge B eX1_solves_137 ho (fun _ ho => ?_) (fun _ ho => ?_)
          · refine j_lsub (lv' := [(0, .ref (ad 99))]) [0] rfl ?_
            exact hJ16 _ ho
          · refine j_aload_n B eX1_solves_140 0 rfl ?_
            refine gfM_15 B eX1_solves_141 ?_
            refine j_aload_n B eX1_solves_144 0 rfl ?_
            refine gfM_12 B eX1_solves_145 ?_
            refine j_iload_n B eX1_solves_148 2 rfl ?_
            refine ldM_12 B eX1_solves_149 ho (fun v36 ho => ?_)
            refine ldM_15 B eX1_solves_150 ho (fun v37 ho => ?_)
            refine j_iload_n B eX1_solves_151 1 rfl ?_
            refine j_icmp_eq B eX1_solves_152 ho (fun _ ho => ?_) (fun _ ho => ?_)
            · refine j_aload_n B eX1_solves_158 0 rfl ?_
              refine j_aload_n B eX1_solves_159 0 rfl ?_
              refine gfM_17 B eX1_solves_160 ?_
              refine j_aload_n B eX1_solves_163 0 rfl ?_
              refine gfM_12 B eX1_solves_164 ?_
              refine j_iload_n B eX1_solves_167 2 rfl ?_
              refine ldM_12 B eX1_solves_168 ho (fun v38 ho => ?_)
              refine ldM_17 B eX1_solves_169 ho (fun v39 ho => ?_)
              refine j_aload_n B eX1_solves_170 0 rfl ?_
              refine gfM_17 B eX1_solves_171 ?_
              refine j_aload_n B eX1_solves_174 0 rfl ?_
              refine gfM_13 B eX1_solves_175 ?_
              refine j_iload_n B eX1_solves_178 2 rfl ?_
              refine ldM_13 B eX1_solves_179 ho (fun v40 ho => ?_)
              refine ldM_17 B eX1_solves_180 ho (fun v41 ho => ?_)
              refine j_aload_n B eX1_solves_181 0 rfl ?_
              refine gfM_14 B eX1_solves_182 ?_
              refine j_iload_n B eX1_solves_185 2 rfl ?_
              refine ldM_14 B eX1_solves_186 ho (fun v42 ho => ?_)
              refine j_callVvw (As := [.int v39, .int v41, .int v42]) B hA (met_X1_tells l D g ad w34 v39 v41 v42) NT_ok pkX1_tells q1001 0 rfl rfl rfl rfl hRm ⟨Nat.le_of_ble_eq_true rfl, Nat.le_of_ble_eq_true rfl⟩ rfl rfl (Nat.le_of_ble_eq_true rfl) ⟨Nat.zero_le _, Nat.zero_le _⟩ eX1_solves_187 ho (fun w43 ho => ?_)
              refine j_aload_n B eX1_solves_190 0 rfl ?_
              refine j_aload_n B eX1_solves_191 0 rfl ?_
              refine gfM_17 B eX1_solves_192 ?_
              refine j_aload_n B eX1_solves_195 0 rfl ?_
              refine gfM_13 B eX1_solves_196 ?_
              refine j_iload_n B eX1_solves_199 2 rfl ?_
              refine ldM_13 B eX1_solves_200 ho (fun v44 ho => ?_)
              refine ldM_17 B eX1_solves_201 ho (fun v45 ho => ?_)
              refine j_aload_n B eX1_solves_202 0 rfl ?_
              refine gfM_17 B eX1_solves_203 ?_
              refine j_aload_n B eX1_solves_206 0 rfl ?_
              refine gfM_12 B eX1_solves_207 ?_
              refine j_iload_n B eX1_solves_210 2 rfl ?_
              refine ldM_12 B eX1_solves_211 ho (fun v46 ho => ?_)
              refine ldM_17 B eX1_solves_212 ho (fun v47 ho => ?_)
              refine j_aload_n B eX1_solves_213 0 rfl ?_
              refine gfM_14 B eX1_solves_214 ?_
              refine j_iload_n B eX1_solves_217 2 rfl ?_
              refine ldM_14 B eX1_solves_218 ho (fun v48 ho => ?_)
              refine j_ineg B eX1_solves_219 ?_
              refine j_callVvw (As := [.int v45, .int v47, .int (-v48)]) B hA (met_X1_tells l D g ad w43 v45 v47 (-v48)) NT_ok pkX1_tells q1001 0 rfl rfl rfl rfl hRm ⟨Nat.le_of_ble_eq_true rfl, Nat.le_of_ble_eq_true rfl⟩ rfl rfl (Nat.le_of_ble_eq_true rfl) ⟨Nat.zero_le _, Nat.zero_le _⟩ eX1_solves_220 ho (fun w49 ho => ?_)
              refine j_iinc (d := 1) (lv' := fun x50 => [(0, .ref (ad 99)), (2, .int x3), (3, .int x50)]) B eX1_solves_223 2 rfl (by decide) [1, 2, 0] (by decide) (fun _ => rfl) ho (fun x50 ho => ?_)
              refine j_goto B eX1_solves_226 ?_
              exact hself35 _ _ ho
            · refine j_goto B eX1_solves_155 ?_
              refine j_iinc (d := 1) (lv' := fun x51 => [(0, .ref (ad 99)), (2, .int x3), (3, .int x51)]) B eX1_solves_223 2 rfl (by decide) [1, 2, 0] (by decide) (fun _ => rfl) ho (fun x51 ho => ?_)
              refine j_goto B eX1_solves_226 ?_
              exact hself35 _ _ ho
      · unfold sM_solves_L111 at ho
        refine fx2 (C := fun x52 w53 => XJ p l e R s m args below meth c 0 0 Q A D vwCl (cellsM g ad) 4 w53 111 [(0, .ref (ad 99)), (2, .int x3), (3, .int x52)] []) (fun self54 hself54 x52 w53 ho => ?_) FU _ _ ho
        refine j_iload_n B eX1_solves_111 2 rfl ?_
        refine j_const B eX1_solves_112 ?_
        refine j_icmp_ge B eX1_solves_114 ho (fun _ ho => ?_) (fun _ ho => ?_)
        · refine j_lsub (lv' := [(0, .ref (ad 99)), (2, .int x3)]) [0, 1] rfl ?_
          exact hJ13 _ ho
        · refine j_aload_n B eX1_solves_117 0 rfl ?_
          refine gfM_19 B eX1_solves_118 ?_
          refine j_iload_n B eX1_solves_121 2 rfl ?_
          refine j_lconst (v := 0) B eX1_solves_122 rfl ?_
          refine stM_19 B eX1_solves_123 ho (fun w55 ho => ?_)
          refine j_iinc (d := 1) (lv' := fun x56 => [(0, .ref (ad 99)), (2, .int x3), (3, .int x56)]) B eX1_solves_124 2 rfl (by decide) [1, 2, 0] (by decide) (fun _ => rfl) ho (fun x56 ho => ?_)
          refine j_goto B eX1_solves_127 ?_
          exact hself54 _ _ ho
    · unfold sM_solves_L90 at ho
      refine fx2 (C := fun x57 w58 => XJ p l e R s m args below meth c 0 0 Q A D vwCl (cellsM g ad) 4 w58 90 [(0, .ref (ad 99)), (2, .int x3), (3, .int x57)] []) (fun self59 hself59 x57 w58 ho => ?_) FU _ _ ho
      refine j_iload_n B eX1_solves_90 2 rfl ?_
      refine j_const B eX1_solves_91 ?_
      refine j_icmp_ge B eX1_solves_93 ho (fun _ ho => ?_) (fun _ ho => ?_)
      · refine j_lsub (lv' := [(0, .ref (ad 99)), (2, .int x3)]) [0, 1] rfl ?_
        exact hJ10 _ ho
      · refine j_aload_n B eX1_solves_96 0 rfl ?_
        refine gfM_18 B eX1_solves_97 ?_
        refine j_iload_n B eX1_solves_100 2 rfl ?_
        refine j_lconst (v := 0) B eX1_solves_101 rfl ?_
        refine stM_18 B eX1_solves_102 ho (fun w60 ho => ?_)
        refine j_iinc (d := 1) (lv' := fun x61 => [(0, .ref (ad 99)), (2, .int x3), (3, .int x61)]) B eX1_solves_103 2 rfl (by decide) [1, 2, 0] (by decide) (fun _ => rfl) ho (fun x61 ho => ?_)
        refine j_goto B eX1_solves_106 ?_
        exact hself59 _ _ ho
  · unfold sM_solves_L18 at ho
    refine fx2 (C := fun x62 w63 => XJ p l e R s m args below meth c 0 0 Q A D vwCl (cellsM g ad) 4 w63 18 [(0, .ref (ad 99)), (2, .int x3), (3, .int x62)] []) (fun self64 hself64 x62 w63 ho => ?_) FU _ _ ho
    refine j_iload_n B eX1_solves_18 2 rfl ?_
    refine j_aload_n B eX1_solves_19 0 rfl ?_
    refine gfM_10 B eX1_solves_20 ?_
    refine j_icmp_ge B eX1_solves_23 ho (fun _ ho => ?_) (fun _ ho => ?_)
    · refine j_lsub (lv' := [(0, .ref (ad 99)), (2, .int x3)]) [0, 1] rfl ?_
      exact hJ7 _ ho
    · refine j_aload_n B eX1_solves_26 0 rfl ?_
      refine gfM_17 B eX1_solves_27 ?_
      refine j_iload_n B eX1_solves_30 2 rfl ?_
      refine j_const B eX1_solves_31 ?_
      refine stM_17 B eX1_solves_32 ho (fun w65 ho => ?_)
      refine j_aload_n B eX1_solves_33 0 rfl ?_
      refine gfM_15 B eX1_solves_34 ?_
      refine j_iload_n B eX1_solves_37 2 rfl ?_
      refine ldM_15 B eX1_solves_38 ho (fun v66 ho => ?_)
      refine j_iload_n B eX1_solves_39 1 rfl ?_
      refine j_icmp_ne B eX1_solves_40 ho (fun _ ho => ?_) (fun _ ho => ?_)
      · refine j_iinc (d := 1) (lv' := fun x67 => [(0, .ref (ad 99)), (2, .int x3), (3, .int x67)]) B eX1_solves_82 2 rfl (by decide) [1, 2, 0] (by decide) (fun _ => rfl) ho (fun x67 ho => ?_)
        refine j_goto B eX1_solves_85 ?_
        exact hself64 _ _ ho
      · refine j_iload_n B eX1_solves_43 2 rfl ?_
        refine j_iload_n B eX1_solves_44 1 rfl ?_
        refine j_icmp_ne B eX1_solves_45 ho (fun _ ho => ?_) (fun _ ho => ?_)
        · refine j_aload_n B eX1_solves_51 0 rfl ?_
          refine gfM_22 B eX1_solves_52 ?_
          refine j_const B eX1_solves_55 ?_
          refine j_icmp_ne B eX1_solves_57 ho (fun _ ho => ?_) (fun _ ho => ?_)
          · refine j_aload_n B eX1_solves_62 0 rfl ?_
            refine gfM_17 B eX1_solves_63 ?_
            refine j_iload_n B eX1_solves_66 2 rfl ?_
            refine j_aload_n B eX1_solves_67 0 rfl ?_
            refine gfM_22 B eX1_solves_68 ?_
            refine stM_17 B eX1_solves_71 ho (fun w68 ho => ?_)
            refine j_aload_n B eX1_solves_72 0 rfl ?_
            refine j_dup B eX1_solves_73 rfl ?_
            refine gfM_22 B eX1_solves_74 ?_
            refine j_const B eX1_solves_77 ?_
            refine j_iadd B eX1_solves_78 ?_
            refine pfM_22 B eX1_solves_79 ho (fun w69 ho => ?_)
            refine j_iinc (d := 1) (lv' := fun x70 => [(0, .ref (ad 99)), (2, .int x3), (3, .int x70)]) B eX1_solves_82 2 rfl (by decide) [1, 2, 0] (by decide) (fun _ => rfl) ho (fun x70 ho => ?_)
            refine j_goto B eX1_solves_85 ?_
            exact hself64 _ _ ho
          · refine j_const B eX1_solves_60 ?_
            exact j_zretw B hr rfl hQ eX1_solves_61 ho
        · refine j_goto B eX1_solves_48 ?_
          refine j_iinc (d := 1) (lv' := fun x71 => [(0, .ref (ad 99)), (2, .int x3), (3, .int x71)]) B eX1_solves_82 2 rfl (by decide) [1, 2, 0] (by decide) (fun _ => rfl) ho (fun x71 ho => ?_)
          refine j_goto B eX1_solves_85 ?_
          exact hself64 _ _ ho
def sM_divisor_L28  : Int64 → Int64 → Option (Int64) :=
  fx (fun _ _ => none) (fun self9 x7 x8 =>
    if x8 = (0 : Int64) then (some x7) else (rd (!decide (x8 = 0)) (lrm x7 x8) fun v10 => nm v10 fun x11 => nm x8 fun x12 => nm x11 fun x13 => self9 x12 x13)) FU
def sM_divisor (a1 : Int64) (a2 : Int64) : Option (Int64) :=
  jn (fun z1 => nm z1 fun x3 => jn (fun z4 => nm z4 fun x6 => sM_divisor_L28 x3 x6) fun J5 => if (0 : Int64) ≤ a2 then (J5 a2) else (J5 (-a2))) fun J2 => if (0 : Int64) ≤ a1 then (J2 a1) else (J2 (-a1))
abbrev rmX1_divisor : Room := { frames := 0, cells := 0, slots := 0, locals := 0 }
theorem pkX1_divisor : PkS yX1_divisor cX1_divisor 10 (some .long) 2 := ⟨q1017, q58, q1018, by decide +kernel⟩
set_option maxHeartbeats 4000000 in
theorem met_X1_divisor (l : Launch) (D : va_G) (tys : List (ClassId × FieldType)) (ws : va_W) (NX : Nat → State → Prop) (a1 : Int64) (a2 : Int64) (sz : Nat) (r : Int64) (ho : sM_divisor a1 a2 = some r) : Met l yX1_divisor (ws_ yX1_divisor cX1_divisor 10 (some .long)) rmX1_divisor (va_Pc [.long a1, .long a2] (MPre D vwCl tys ws NX sz)) (QcL D vwCl tys ws r (va_A ws sz)) 0 0 (va_A ws sz) := by
  refine met_XJ (cw := fun (_ : Unit) => ws) (w := ()) (cc := cX1_divisor) (lv := [(0, .long a1), (2, .long a2)]) pnX1 _ (Nat.le_of_ble_eq_true rfl) rfl ?_
  intro p e s m args below meth c R Q A B hN hr hsz hA hmm hRm hQ hAe
  unfold sM_divisor at ho
  refine j_lload_n B eX1_divisor_0 0 rfl ?_
  refine j_lconst (v := 0) B eX1_divisor_1 rfl ?_
  refine jn1 (C := fun z1 => XJ p l e R s m args below meth c 0 0 Q A D vwCl (fun (_ : Unit) => ws) 10 () 12 [(2, .long a2)] [.long z1]) ho (fun z1 ho => ?_) (fun J2 hJ2 ho => ?_)
  · refine j_lstore (lv' := fun x3 => [(2, .long a2), (4, .long x3)]) B eX1_divisor_12 [1, 0] (by decide) (fun _ => rfl) ho (fun x3 ho => ?_)
    refine j_lload_n B eX1_divisor_14 0 rfl ?_
    refine j_lconst (v := 0) B eX1_divisor_15 rfl ?_
    refine jn1 (C := fun z4 => XJ p l e R s m args below meth c 0 0 Q A D vwCl (fun (_ : Unit) => ws) 10 () 26 [(4, .long x3)] [.long z4]) ho (fun z4 ho => ?_) (fun J5 hJ5 ho => ?_)
    · refine j_lstore (lv' := fun x6 => [(4, .long x3), (6, .long x6)]) B eX1_divisor_26 [1, 0] (by decide) (fun _ => rfl) ho (fun x6 ho => ?_)
      unfold sM_divisor_L28 at ho
      refine fx2 (C := fun x7 x8 => XJ p l e R s m args below meth c 0 0 Q A D vwCl (fun (_ : Unit) => ws) 10 () 28 [(4, .long x7), (6, .long x8)] []) (fun self9 hself9 x7 x8 ho => ?_) FU _ _ ho
      refine j_lload B eX1_divisor_28 1 rfl ?_
      refine j_lconst (v := 0) B eX1_divisor_30 rfl ?_
      refine j_lcmp_eq B eX1_divisor_31 eX1_divisor_32 ho (fun _ ho => ?_) (fun _ ho => ?_)
      · refine j_lload B eX1_divisor_53 0 rfl ?_
        exact j_lret B hr hQ eX1_divisor_55 ho
      · refine j_lload B eX1_divisor_35 0 rfl ?_
        refine j_lload B eX1_divisor_37 1 rfl ?_
        refine j_lrmG B eX1_divisor_39 ho (fun v10 ho => ?_)
        refine j_lstore (lv' := fun x11 => [(6, .long x8), (8, .long x11)]) B eX1_divisor_40 [2, 0] (by decide) (fun _ => rfl) ho (fun x11 ho => ?_)
        refine j_lload B eX1_divisor_42 0 rfl ?_
        refine j_lstore (lv' := fun x12 => [(4, .long x12), (8, .long x11)]) B eX1_divisor_44 [0, 2] (by decide) (fun _ => rfl) ho (fun x12 ho => ?_)
        refine j_lload B eX1_divisor_46 1 rfl ?_
        refine j_lstore (lv' := fun x13 => [(4, .long x12), (6, .long x13)]) B eX1_divisor_48 [1, 0] (by decide) (fun _ => rfl) ho (fun x13 ho => ?_)
        refine j_goto B eX1_divisor_50 ?_
        exact hself9 _ _ ho
    · refine j_lcmp_ge B eX1_divisor_16 eX1_divisor_17 ho (fun _ ho => ?_) (fun _ ho => ?_)
      · refine j_lload_n B eX1_divisor_25 0 rfl ?_
        refine j_lsub (lv' := [(4, .long x3)]) [1] rfl ?_
        exact hJ5 _ ho
      · refine j_lload_n B eX1_divisor_20 0 rfl ?_
        refine j_lneg B eX1_divisor_21 ?_
        refine j_goto B eX1_divisor_22 ?_
        refine j_lsub (lv' := [(4, .long x3)]) [1] rfl ?_
        exact hJ5 _ ho
  · refine j_lcmp_ge B eX1_divisor_2 eX1_divisor_3 ho (fun _ ho => ?_) (fun _ ho => ?_)
    · refine j_lload_n B eX1_divisor_11 0 rfl ?_
      refine j_lsub (lv' := [(2, .long a2)]) [1] rfl ?_
      exact hJ2 _ ho
    · refine j_lload_n B eX1_divisor_6 0 rfl ?_
      refine j_lneg B eX1_divisor_7 ?_
      refine j_goto B eX1_divisor_8 ?_
      refine j_lsub (lv' := [(2, .long a2)]) [1] rfl ?_
      exact hJ2 _ ho
def sM_part (a1 : Int64) (a2 : Int64) (a3 : Int32) : Option (Int64) :=
  bd (sM_divisor a1 a2) fun v1 => nm v1 fun x2 => if a3 = 0 then (rd (!decide (x2 = 0)) (a1 / x2) fun v4 => some v4) else (rd (!decide (x2 = 0)) (a2 / x2) fun v3 => some v3)
abbrev rmX1_part : Room := { frames := 1, cells := 0, slots := 0, locals := 29 }
theorem pkX1_part : PkS yX1_part cX1_part 7 (some .long) 3 := ⟨q1014, q58, q1015, by decide +kernel⟩
set_option maxHeartbeats 4000000 in
theorem met_X1_part (l : Launch) (D : va_G) (tys : List (ClassId × FieldType)) (ws : va_W) (NX : Nat → State → Prop) (a1 : Int64) (a2 : Int64) (a3 : Int32) (sz : Nat) (r : Int64) (ho : sM_part a1 a2 a3 = some r) : Met l yX1_part (ws_ yX1_part cX1_part 7 (some .long)) rmX1_part (va_Pc [.long a1, .long a2, .int a3] (MPre D vwCl tys ws NX sz)) (QcL D vwCl tys ws r (va_A ws sz)) 0 0 (va_A ws sz) := by
  refine met_XJ (cw := fun (_ : Unit) => ws) (w := ()) (cc := cX1_part) (lv := [(0, .long a1), (2, .long a2), (4, .int a3)]) pnX1 _ (Nat.le_of_ble_eq_true rfl) rfl ?_
  intro p e s m args below meth c R Q A B hN hr hsz hA hmm hRm hQ hAe
  unfold sM_part at ho
  refine j_lload_n B eX1_part_0 0 rfl ?_
  refine j_lload_n B eX1_part_1 1 rfl ?_
  refine j_callSl (As := [.long a1, .long a2]) B hA (met_X1_divisor l D _ _ _ a1 a2) NT_ok pkX1_divisor q1016 rfl rfl hRm ⟨Nat.le_of_ble_eq_true rfl, Nat.le_of_ble_eq_true rfl⟩ rfl rfl (Nat.le_of_ble_eq_true rfl) ⟨Nat.zero_le _, Nat.zero_le _⟩ eX1_part_2 ho (fun v1 ho => ?_)
  refine j_lstore (lv' := fun x2 => [(0, .long a1), (2, .long a2), (4, .int a3), (5, .long x2)]) B eX1_part_5 [1, 2, 3, 0] (by decide) (fun _ => rfl) ho (fun x2 ho => ?_)
  refine j_iload B eX1_part_7 2 rfl ?_
  refine j_if_ne B eX1_part_9 ho (fun _ ho => ?_) (fun _ ho => ?_)
  · refine j_lload_n B eX1_part_19 1 rfl ?_
    refine j_lload B eX1_part_20 3 rfl ?_
    refine j_ldivG B eX1_part_22 ho (fun v3 ho => ?_)
    exact j_lret B hr hQ eX1_part_23 ho
  · refine j_lload_n B eX1_part_12 0 rfl ?_
    refine j_lload B eX1_part_13 3 rfl ?_
    refine j_ldivG B eX1_part_15 ho (fun v4 ho => ?_)
    refine j_goto B eX1_part_16 ?_
    exact j_lret B hr hQ eX1_part_23 ho
def sM_strength (w : Wd) (a1 : Int32) (a2 : Int32) : Option (Int64 × Wd) :=
  bd (sM_isOar w a1) fun v1 => if v1 = 0 then (some ((-9223372036854775808 : Int64), w)) else (bd (sM_isIn (Int32.toInt64 a2) (0 : Int64) (1 : Int64)) fun v2 => if v2 = 0 then (some ((-9223372036854775808 : Int64), w)) else (bd2 (sM_solves w a1) fun v3 w4 => if v3 = 0 then (some ((-9223372036854775808 : Int64), w4)) else (rd (inb a1 16) (w4.2.2 21 (Int32.toNatClampNeg a1)) fun v5 => bd (sM_part v5 (w4.2.2 90 23) a2) fun v6 => some (v6, w4))))
abbrev rmX1_strength : Room := { frames := 3, cells := 0, slots := 0, locals := 71 }
theorem pkX1_strength : PkV yX1_strength RX1 cX1_strength 3 (some .long) 2 := ⟨q994, q995, q58, q996, by decide +kernel⟩
set_option maxHeartbeats 4000000 in
theorem met_X1_strength (l : Launch) (D : va_G) (g : Nat → ClassId) (ad : Nat → Nat) (w : Wd) (a1 : Int32) (a2 : Int32) (sz : Nat) (r : Int64) (w' : Wd) (ho : sM_strength w a1 a2 = some (r, w')) : Met l yX1_strength (ws_ yX1_strength cX1_strength 3 (some .long)) rmX1_strength (va_Pc [.ref (ad 99), .int a1, .int a2] (MPre D vwCl (tysG g) (cellsM g ad w) NT sz)) (QcL D vwCl (tysG g) (cellsM g ad w') r (va_A (cellsM g ad w) sz)) 0 0 (va_A (cellsM g ad w) sz) := by
  refine met_XJ (cw := cellsM g ad) (w := w) (cc := cX1_strength) (lv := [(0, .ref (ad 99)), (1, .int a1), (2, .int a2)]) pnX1 _ (Nat.le_of_ble_eq_true rfl) rfl ?_
  intro p e s m args below meth c R Q A B hN hr hsz hA hmm hRm hQ hAe
  unfold sM_strength at ho
  refine j_aload_n B eX1_strength_0 0 rfl ?_
  refine j_iload_n B eX1_strength_1 1 rfl ?_
  refine j_callVi (As := [.int a1]) B hA (met_X1_isOar l D g ad w a1) NT_ok pkX1_isOar q939 0 rfl rfl rfl rfl hRm ⟨Nat.le_of_ble_eq_true rfl, Nat.le_of_ble_eq_true rfl⟩ rfl rfl (Nat.le_of_ble_eq_true rfl) ⟨Nat.zero_le _, Nat.zero_le _⟩ eX1_strength_2 ho (fun v1 ho => ?_)
  refine j_if_eq B eX1_strength_5 ho (fun _ ho => ?_) (fun _ ho => ?_)
  · refine j_ldc2 B eX1_strength_26 q1012 ?_
    exact j_lretw B hr hQ eX1_strength_29 ho
  · refine j_iload_n B eX1_strength_8 2 rfl ?_
    refine j_i2l B eX1_strength_9 ?_
    refine j_lconst (v := 0) B eX1_strength_10 rfl ?_
    refine j_lconst (v := 1) B eX1_strength_11 rfl ?_
    refine j_callSi (As := [.long (Int32.toInt64 a2), .long (0 : Int64), .long (1 : Int64)]) B hA (met_X1_isIn l D _ _ _ (Int32.toInt64 a2) (0 : Int64) (1 : Int64)) NT_ok pkX1_isIn q925 rfl rfl hRm ⟨Nat.le_of_ble_eq_true rfl, Nat.le_of_ble_eq_true rfl⟩ rfl rfl (Nat.le_of_ble_eq_true rfl) ⟨Nat.zero_le _, Nat.zero_le _⟩ eX1_strength_12 ho (fun v2 ho => ?_)
    refine j_if_eq B eX1_strength_15 ho (fun _ ho => ?_) (fun _ ho => ?_)
    · refine j_ldc2 B eX1_strength_26 q1012 ?_
      exact j_lretw B hr hQ eX1_strength_29 ho
    · refine j_aload_n B eX1_strength_18 0 rfl ?_
      refine j_iload_n B eX1_strength_19 1 rfl ?_
      refine j_callViw (As := [.int a1]) B hA (met_X1_solves l D g ad w a1) NT_ok pkX1_solves q997 0 rfl rfl rfl rfl hRm ⟨Nat.le_of_ble_eq_true rfl, Nat.le_of_ble_eq_true rfl⟩ rfl rfl (Nat.le_of_ble_eq_true rfl) ⟨Nat.zero_le _, Nat.zero_le _⟩ eX1_strength_20 ho (fun v3 w4 ho => ?_)
      refine j_if_ne B eX1_strength_23 ho (fun _ ho => ?_) (fun _ ho => ?_)
      · refine j_aload_n B eX1_strength_30 0 rfl ?_
        refine gfM_21 B eX1_strength_31 ?_
        refine j_iload_n B eX1_strength_34 1 rfl ?_
        refine ldM_21 B eX1_strength_35 ho (fun v5 ho => ?_)
        refine j_aload_n B eX1_strength_36 0 rfl ?_
        refine gfM_23 B eX1_strength_37 ?_
        refine j_iload_n B eX1_strength_40 2 rfl ?_
        refine j_callSl (As := [.long v5, .long (w4.2.2 90 23), .int a2]) B hA (met_X1_part l D _ _ _ v5 (w4.2.2 90 23) a2) NT_ok pkX1_part q1013 rfl rfl hRm ⟨Nat.le_of_ble_eq_true rfl, Nat.le_of_ble_eq_true rfl⟩ rfl rfl (Nat.le_of_ble_eq_true rfl) ⟨Nat.zero_le _, Nat.zero_le _⟩ eX1_strength_41 ho (fun v6 ho => ?_)
        exact j_lretw B hr hQ eX1_strength_44 ho
      · refine j_ldc2 B eX1_strength_26 q1012 ?_
        exact j_lretw B hr hQ eX1_strength_29 ho
def sM_between (w : Wd) (a1 : Int32) (a2 : Int32) (a3 : Int32) : Option (Int64 × Wd) :=
  bd (sM_isOar w a1) fun v1 => if v1 = 0 then (some ((-9223372036854775808 : Int64), w)) else (bd (sM_isOar w a2) fun v2 => if v2 = 0 then (some ((-9223372036854775808 : Int64), w)) else (bd (sM_isIn (Int32.toInt64 a3) (0 : Int64) (1 : Int64)) fun v3 => if v3 = 0 then (some ((-9223372036854775808 : Int64), w)) else (bd2 (sM_solves w a1) fun v4 w5 => if v4 = 0 then (some ((-9223372036854775808 : Int64), w5)) else (rd (inb a1 16) (w5.2.1 15 (Int32.toNatClampNeg a1)) fun v6 => rd (inb a2 16) (w5.2.1 15 (Int32.toNatClampNeg a2)) fun v7 => if v6 = v7 then (rd (inb a1 16) (w5.2.2 21 (Int32.toNatClampNeg a1)) fun v8 => rd (inb a2 16) (w5.2.2 21 (Int32.toNatClampNeg a2)) fun v9 => bd (sM_part (v8 - v9) (w5.2.2 90 23) a3) fun v10 => some (v10, w5)) else (some ((-9223372036854775808 : Int64), w5))))))
abbrev rmX1_between : Room := { frames := 3, cells := 0, slots := 0, locals := 71 }
theorem pkX1_between : PkV yX1_between RX1 cX1_between 4 (some .long) 3 := ⟨q1020, q1021, q58, q1022, by decide +kernel⟩
set_option maxHeartbeats 4000000 in
theorem met_X1_between (l : Launch) (D : va_G) (g : Nat → ClassId) (ad : Nat → Nat) (w : Wd) (a1 : Int32) (a2 : Int32) (a3 : Int32) (sz : Nat) (r : Int64) (w' : Wd) (ho : sM_between w a1 a2 a3 = some (r, w')) : Met l yX1_between (ws_ yX1_between cX1_between 4 (some .long)) rmX1_between (va_Pc [.ref (ad 99), .int a1, .int a2, .int a3] (MPre D vwCl (tysG g) (cellsM g ad w) NT sz)) (QcL D vwCl (tysG g) (cellsM g ad w') r (va_A (cellsM g ad w) sz)) 0 0 (va_A (cellsM g ad w) sz) := by
  refine met_XJ (cw := cellsM g ad) (w := w) (cc := cX1_between) (lv := [(0, .ref (ad 99)), (1, .int a1), (2, .int a2), (3, .int a3)]) pnX1 _ (Nat.le_of_ble_eq_true rfl) rfl ?_
  intro p e s m args below meth c R Q A B hN hr hsz hA hmm hRm hQ hAe
  unfold sM_between at ho
  refine j_aload_n B eX1_between_0 0 rfl ?_
  refine j_iload_n B eX1_between_1 1 rfl ?_
  refine j_callVi (As := [.int a1]) B hA (met_X1_isOar l D g ad w a1) NT_ok pkX1_isOar q939 0 rfl rfl rfl rfl hRm ⟨Nat.le_of_ble_eq_true rfl, Nat.le_of_ble_eq_true rfl⟩ rfl rfl (Nat.le_of_ble_eq_true rfl) ⟨Nat.zero_le _, Nat.zero_le _⟩ eX1_between_2 ho (fun v1 ho => ?_)
  refine j_if_eq B eX1_between_5 ho (fun _ ho => ?_) (fun _ ho => ?_)
  · refine j_ldc2 B eX1_between_49 q1012 ?_
    exact j_lretw B hr hQ eX1_between_52 ho
  · refine j_aload_n B eX1_between_8 0 rfl ?_
    refine j_iload_n B eX1_between_9 2 rfl ?_
    refine j_callVi (As := [.int a2]) B hA (met_X1_isOar l D g ad w a2) NT_ok pkX1_isOar q939 0 rfl rfl rfl rfl hRm ⟨Nat.le_of_ble_eq_true rfl, Nat.le_of_ble_eq_true rfl⟩ rfl rfl (Nat.le_of_ble_eq_true rfl) ⟨Nat.zero_le _, Nat.zero_le _⟩ eX1_between_10 ho (fun v2 ho => ?_)
    refine j_if_eq B eX1_between_13 ho (fun _ ho => ?_) (fun _ ho => ?_)
    · refine j_ldc2 B eX1_between_49 q1012 ?_
      exact j_lretw B hr hQ eX1_between_52 ho
    · refine j_iload_n B eX1_between_16 3 rfl ?_
      refine j_i2l B eX1_between_17 ?_
      refine j_lconst (v := 0) B eX1_between_18 rfl ?_
      refine j_lconst (v := 1) B eX1_between_19 rfl ?_
      refine j_callSi (As := [.long (Int32.toInt64 a3), .long (0 : Int64), .long (1 : Int64)]) B hA (met_X1_isIn l D _ _ _ (Int32.toInt64 a3) (0 : Int64) (1 : Int64)) NT_ok pkX1_isIn q925 rfl rfl hRm ⟨Nat.le_of_ble_eq_true rfl, Nat.le_of_ble_eq_true rfl⟩ rfl rfl (Nat.le_of_ble_eq_true rfl) ⟨Nat.zero_le _, Nat.zero_le _⟩ eX1_between_20 ho (fun v3 ho => ?_)
      refine j_if_eq B eX1_between_23 ho (fun _ ho => ?_) (fun _ ho => ?_)
      · refine j_ldc2 B eX1_between_49 q1012 ?_
        exact j_lretw B hr hQ eX1_between_52 ho
      · refine j_aload_n B eX1_between_26 0 rfl ?_
        refine j_iload_n B eX1_between_27 1 rfl ?_
        refine j_callViw (As := [.int a1]) B hA (met_X1_solves l D g ad w a1) NT_ok pkX1_solves q997 0 rfl rfl rfl rfl hRm ⟨Nat.le_of_ble_eq_true rfl, Nat.le_of_ble_eq_true rfl⟩ rfl rfl (Nat.le_of_ble_eq_true rfl) ⟨Nat.zero_le _, Nat.zero_le _⟩ eX1_between_28 ho (fun v4 w5 ho => ?_)
        refine j_if_eq B eX1_between_31 ho (fun _ ho => ?_) (fun _ ho => ?_)
        · refine j_ldc2 B eX1_between_49 q1012 ?_
          exact j_lretw B hr hQ eX1_between_52 ho
        · refine j_aload_n B eX1_between_34 0 rfl ?_
          refine gfM_15 B eX1_between_35 ?_
          refine j_iload_n B eX1_between_38 1 rfl ?_
          refine ldM_15 B eX1_between_39 ho (fun v6 ho => ?_)
          refine j_aload_n B eX1_between_40 0 rfl ?_
          refine gfM_15 B eX1_between_41 ?_
          refine j_iload_n B eX1_between_44 2 rfl ?_
          refine ldM_15 B eX1_between_45 ho (fun v7 ho => ?_)
          refine j_icmp_eq B eX1_between_46 ho (fun _ ho => ?_) (fun _ ho => ?_)
          · refine j_aload_n B eX1_between_53 0 rfl ?_
            refine gfM_21 B eX1_between_54 ?_
            refine j_iload_n B eX1_between_57 1 rfl ?_
            refine ldM_21 B eX1_between_58 ho (fun v8 ho => ?_)
            refine j_aload_n B eX1_between_59 0 rfl ?_
            refine gfM_21 B eX1_between_60 ?_
            refine j_iload_n B eX1_between_63 2 rfl ?_
            refine ldM_21 B eX1_between_64 ho (fun v9 ho => ?_)
            refine j_lsubt B eX1_between_65 ?_
            refine j_aload_n B eX1_between_66 0 rfl ?_
            refine gfM_23 B eX1_between_67 ?_
            refine j_iload_n B eX1_between_70 3 rfl ?_
            refine j_callSl (As := [.long (v8 - v9), .long (w5.2.2 90 23), .int a3]) B hA (met_X1_part l D _ _ _ (v8 - v9) (w5.2.2 90 23) a3) NT_ok pkX1_part q1013 rfl rfl hRm ⟨Nat.le_of_ble_eq_true rfl, Nat.le_of_ble_eq_true rfl⟩ rfl rfl (Nat.le_of_ble_eq_true rfl) ⟨Nat.zero_le _, Nat.zero_le _⟩ eX1_between_71 ho (fun v10 ho => ?_)
            exact j_lretw B hr hQ eX1_between_74 ho
          · refine j_ldc2 B eX1_between_49 q1012 ?_
            exact j_lretw B hr hQ eX1_between_52 ho
def sM_misfit_L35 (a1 : Int32) (w4 : Wd) (J8 : Int64 → Option (Int64 × Wd)) : Int64 → Int32 → Option (Int64 × Wd) :=
  fx (fun _ _ => none) (fun self12 x10 x11 =>
    if (w4.2.1 90 16) ≤ x11 then (J8 x10) else (rd (inb x11 40) (w4.2.1 12 (Int32.toNatClampNeg x11)) fun v13 => rd (inb v13 16) (w4.2.1 15 (Int32.toNatClampNeg v13)) fun v14 => rd (inb a1 16) (w4.2.1 15 (Int32.toNatClampNeg a1)) fun v15 => if v14 = v15 then (rd (inb x11 40) (w4.2.1 12 (Int32.toNatClampNeg x11)) fun v16 => rd (inb v16 16) (w4.2.2 21 (Int32.toNatClampNeg v16)) fun v17 => rd (inb x11 40) (w4.2.1 13 (Int32.toNatClampNeg x11)) fun v18 => rd (inb v18 16) (w4.2.2 21 (Int32.toNatClampNeg v18)) fun v19 => rd (inb x11 40) (w4.2.1 14 (Int32.toNatClampNeg x11)) fun v20 => nm ((v17 - v19) - ((Int32.toInt64 v20) * (w4.2.2 90 23))) fun x21 => jn (fun z22 => nm (x10 + z22) fun x24 => nm (x11 + (1 : Int32)) fun x25 => self12 x24 x25) fun J23 => if (0 : Int64) ≤ x21 then (J23 x21) else (J23 (-x21))) else (nm (x11 + (1 : Int32)) fun x26 => self12 x10 x26))) FU
def sM_misfit (w : Wd) (a1 : Int32) (a2 : Int32) : Option (Int64 × Wd) :=
  bd (sM_isOar w a1) fun v1 => if v1 = 0 then (some ((-9223372036854775808 : Int64), w)) else (bd (sM_isIn (Int32.toInt64 a2) (0 : Int64) (1 : Int64)) fun v2 => if v2 = 0 then (some ((-9223372036854775808 : Int64), w)) else (bd2 (sM_solves w a1) fun v3 w4 => if v3 = 0 then (some ((-9223372036854775808 : Int64), w4)) else (nm (0 : Int64) fun x5 => nm (0 : Int32) fun x6 => jn (fun x7 => bd (sM_part x7 (w4.2.2 90 23) a2) fun v9 => some (v9, w4)) fun J8 => sM_misfit_L35 a1 w4 J8 x5 x6)))
abbrev rmX1_misfit : Room := { frames := 3, cells := 0, slots := 0, locals := 71 }
theorem pkX1_misfit : PkV yX1_misfit RX1 cX1_misfit 8 (some .long) 2 := ⟨q1024, q1025, q58, q1026, by decide +kernel⟩
set_option maxHeartbeats 4000000 in
theorem met_X1_misfit (l : Launch) (D : va_G) (g : Nat → ClassId) (ad : Nat → Nat) (w : Wd) (a1 : Int32) (a2 : Int32) (sz : Nat) (r : Int64) (w' : Wd) (ho : sM_misfit w a1 a2 = some (r, w')) : Met l yX1_misfit (ws_ yX1_misfit cX1_misfit 8 (some .long)) rmX1_misfit (va_Pc [.ref (ad 99), .int a1, .int a2] (MPre D vwCl (tysG g) (cellsM g ad w) NT sz)) (QcL D vwCl (tysG g) (cellsM g ad w') r (va_A (cellsM g ad w) sz)) 0 0 (va_A (cellsM g ad w) sz) := by
  refine met_XJ (cw := cellsM g ad) (w := w) (cc := cX1_misfit) (lv := [(0, .ref (ad 99)), (1, .int a1), (2, .int a2)]) pnX1 _ (Nat.le_of_ble_eq_true rfl) rfl ?_
  intro p e s m args below meth c R Q A B hN hr hsz hA hmm hRm hQ hAe
  unfold sM_misfit at ho
  refine j_aload_n B eX1_misfit_0 0 rfl ?_
  refine j_iload_n B eX1_misfit_1 1 rfl ?_
  refine j_callVi (As := [.int a1]) B hA (met_X1_isOar l D g ad w a1) NT_ok pkX1_isOar q939 0 rfl rfl rfl rfl hRm ⟨Nat.le_of_ble_eq_true rfl, Nat.le_of_ble_eq_true rfl⟩ rfl rfl (Nat.le_of_ble_eq_true rfl) ⟨Nat.zero_le _, Nat.zero_le _⟩ eX1_misfit_2 ho (fun v1 ho => ?_)
  refine j_if_eq B eX1_misfit_5 ho (fun _ ho => ?_) (fun _ ho => ?_)
  · refine j_ldc2 B eX1_misfit_26 q1012 ?_
    exact j_lretw B hr hQ eX1_misfit_29 ho
  · refine j_iload_n B eX1_misfit_8 2 rfl ?_
    refine j_i2l B eX1_misfit_9 ?_
    refine j_lconst (v := 0) B eX1_misfit_10 rfl ?_
    refine j_lconst (v := 1) B eX1_misfit_11 rfl ?_
    refine j_callSi (As := [.long (Int32.toInt64 a2), .long (0 : Int64), .long (1 : Int64)]) B hA (met_X1_isIn l D _ _ _ (Int32.toInt64 a2) (0 : Int64) (1 : Int64)) NT_ok pkX1_isIn q925 rfl rfl hRm ⟨Nat.le_of_ble_eq_true rfl, Nat.le_of_ble_eq_true rfl⟩ rfl rfl (Nat.le_of_ble_eq_true rfl) ⟨Nat.zero_le _, Nat.zero_le _⟩ eX1_misfit_12 ho (fun v2 ho => ?_)
    refine j_if_eq B eX1_misfit_15 ho (fun _ ho => ?_) (fun _ ho => ?_)
    · refine j_ldc2 B eX1_misfit_26 q1012 ?_
      exact j_lretw B hr hQ eX1_misfit_29 ho
    · refine j_aload_n B eX1_misfit_18 0 rfl ?_
      refine j_iload_n B eX1_misfit_19 1 rfl ?_
      refine j_callViw (As := [.int a1]) B hA (met_X1_solves l D g ad w a1) NT_ok pkX1_solves q997 0 rfl rfl rfl rfl hRm ⟨Nat.le_of_ble_eq_true rfl, Nat.le_of_ble_eq_true rfl⟩ rfl rfl (Nat.le_of_ble_eq_true rfl) ⟨Nat.zero_le _, Nat.zero_le _⟩ eX1_misfit_20 ho (fun v3 w4 ho => ?_)
      refine j_if_ne B eX1_misfit_23 ho (fun _ ho => ?_) (fun _ ho => ?_)
      · refine j_lconst (v := 0) B eX1_misfit_30 rfl ?_
        refine j_lstore_n (lv' := fun x5 => [(0, .ref (ad 99)), (1, .int a1), (2, .int a2), (3, .long x5)]) B eX1_misfit_31 [1, 2, 3, 0] (by decide) (fun _ => rfl) ho (fun x5 ho => ?_)
        refine j_const B eX1_misfit_32 ?_
        refine j_istore (lv' := fun x6 => [(0, .ref (ad 99)), (1, .int a1), (2, .int a2), (3, .long x5), (5, .int x6)]) B eX1_misfit_33 [1, 2, 3, 4, 0] (by decide) (fun _ => rfl) ho (fun x6 ho => ?_)
        refine jn1 (C := fun x7 => XJ p l e R s m args below meth c 0 0 Q A D vwCl (cellsM g ad) 8 w4 133 [(0, .ref (ad 99)), (2, .int a2), (3, .long x7)] []) ho (fun x7 ho => ?_) (fun J8 hJ8 ho => ?_)
        · refine j_lload_n B eX1_misfit_133 2 rfl ?_
          refine j_aload_n B eX1_misfit_134 0 rfl ?_
          refine gfM_23 B eX1_misfit_135 ?_
          refine j_iload_n B eX1_misfit_138 1 rfl ?_
          refine j_callSl (As := [.long x7, .long (w4.2.2 90 23), .int a2]) B hA (met_X1_part l D _ _ _ x7 (w4.2.2 90 23) a2) NT_ok pkX1_part q1013 rfl rfl hRm ⟨Nat.le_of_ble_eq_true rfl, Nat.le_of_ble_eq_true rfl⟩ rfl rfl (Nat.le_of_ble_eq_true rfl) ⟨Nat.zero_le _, Nat.zero_le _⟩ eX1_misfit_139 ho (fun v9 ho => ?_)
          exact j_lretw B hr hQ eX1_misfit_142 ho
        · unfold sM_misfit_L35 at ho
          refine fx2 (C := fun x10 x11 => XJ p l e R s m args below meth c 0 0 Q A D vwCl (cellsM g ad) 8 w4 35 [(0, .ref (ad 99)), (1, .int a1), (2, .int a2), (3, .long x10), (5, .int x11)] []) (fun self12 hself12 x10 x11 ho => ?_) FU _ _ ho
          refine j_iload B eX1_misfit_35 4 rfl ?_
          refine j_aload_n B eX1_misfit_37 0 rfl ?_
          refine gfM_16 B eX1_misfit_38 ?_
          refine j_icmp_ge B eX1_misfit_41 ho (fun _ ho => ?_) (fun _ ho => ?_)
          · refine j_lsub (lv' := [(0, .ref (ad 99)), (2, .int a2), (3, .long x10)]) [0, 2, 3] rfl ?_
            exact hJ8 _ ho
          · refine j_aload_n B eX1_misfit_44 0 rfl ?_
            refine gfM_15 B eX1_misfit_45 ?_
            refine j_aload_n B eX1_misfit_48 0 rfl ?_
            refine gfM_12 B eX1_misfit_49 ?_
            refine j_iload B eX1_misfit_52 4 rfl ?_
            refine ldM_12 B eX1_misfit_54 ho (fun v13 ho => ?_)
            refine ldM_15 B eX1_misfit_55 ho (fun v14 ho => ?_)
            refine j_aload_n B eX1_misfit_56 0 rfl ?_
            refine gfM_15 B eX1_misfit_57 ?_
            refine j_iload_n B eX1_misfit_60 1 rfl ?_
            refine ldM_15 B eX1_misfit_61 ho (fun v15 ho => ?_)
            refine j_icmp_eq B eX1_misfit_62 ho (fun _ ho => ?_) (fun _ ho => ?_)
            · refine j_aload_n B eX1_misfit_68 0 rfl ?_
              refine gfM_21 B eX1_misfit_69 ?_
              refine j_aload_n B eX1_misfit_72 0 rfl ?_
              refine gfM_12 B eX1_misfit_73 ?_
              refine j_iload B eX1_misfit_76 4 rfl ?_
              refine ldM_12 B eX1_misfit_78 ho (fun v16 ho => ?_)
              refine ldM_21 B eX1_misfit_79 ho (fun v17 ho => ?_)
              refine j_aload_n B eX1_misfit_80 0 rfl ?_
              refine gfM_21 B eX1_misfit_81 ?_
              refine j_aload_n B eX1_misfit_84 0 rfl ?_
              refine gfM_13 B eX1_misfit_85 ?_
              refine j_iload B eX1_misfit_88 4 rfl ?_
              refine ldM_13 B eX1_misfit_90 ho (fun v18 ho => ?_)
              refine ldM_21 B eX1_misfit_91 ho (fun v19 ho => ?_)
              refine j_lsubt B eX1_misfit_92 ?_
              refine j_aload_n B eX1_misfit_93 0 rfl ?_
              refine gfM_14 B eX1_misfit_94 ?_
              refine j_iload B eX1_misfit_97 4 rfl ?_
              refine ldM_14 B eX1_misfit_99 ho (fun v20 ho => ?_)
              refine j_i2l B eX1_misfit_100 ?_
              refine j_aload_n B eX1_misfit_101 0 rfl ?_
              refine gfM_23 B eX1_misfit_102 ?_
              refine j_lmul B eX1_misfit_105 ?_
              refine j_lsubt B eX1_misfit_106 ?_
              refine j_lstore (lv' := fun x21 => [(0, .ref (ad 99)), (1, .int a1), (2, .int a2), (3, .long x10), (5, .int x11), (6, .long x21)]) B eX1_misfit_107 [1, 2, 3, 4, 5, 0] (by decide) (fun _ => rfl) ho (fun x21 ho => ?_)
              refine j_lload_n B eX1_misfit_109 3 rfl ?_
              refine j_lload B eX1_misfit_110 5 rfl ?_
              refine j_lconst (v := 0) B eX1_misfit_112 rfl ?_
              refine jn1 (C := fun z22 => XJ p l e R s m args below meth c 0 0 Q A D vwCl (cellsM g ad) 8 w4 125 [(0, .ref (ad 99)), (1, .int a1), (2, .int a2), (5, .int x11)] [.long z22, .long x10]) ho (fun z22 ho => ?_) (fun J23 hJ23 ho => ?_)
              · refine j_ladd B eX1_misfit_125 ?_
                refine j_lstore_n (lv' := fun x24 => [(0, .ref (ad 99)), (1, .int a1), (2, .int a2), (3, .long x24), (5, .int x11)]) B eX1_misfit_126 [1, 2, 3, 0, 4] (by decide) (fun _ => rfl) ho (fun x24 ho => ?_)
                refine j_iinc (d := 1) (lv' := fun x25 => [(0, .ref (ad 99)), (1, .int a1), (2, .int a2), (3, .long x24), (5, .int x25)]) B eX1_misfit_127 4 rfl (by decide) [1, 2, 3, 4, 0] (by decide) (fun _ => rfl) ho (fun x25 ho => ?_)
                refine j_goto B eX1_misfit_130 ?_
                exact hself12 _ _ ho
              · refine j_lcmp_ge B eX1_misfit_113 eX1_misfit_114 ho (fun _ ho => ?_) (fun _ ho => ?_)
                · refine j_lload B eX1_misfit_123 5 rfl ?_
                  refine j_lsub (lv' := [(0, .ref (ad 99)), (1, .int a1), (2, .int a2), (5, .int x11)]) [0, 1, 2, 4] rfl ?_
                  exact hJ23 _ ho
                · refine j_lload B eX1_misfit_117 5 rfl ?_
                  refine j_lneg B eX1_misfit_119 ?_
                  refine j_goto B eX1_misfit_120 ?_
                  refine j_lsub (lv' := [(0, .ref (ad 99)), (1, .int a1), (2, .int a2), (5, .int x11)]) [0, 1, 2, 4] rfl ?_
                  exact hJ23 _ ho
            · refine j_goto B eX1_misfit_65 ?_
              refine j_iinc (d := 1) (lv' := fun x26 => [(0, .ref (ad 99)), (1, .int a1), (2, .int a2), (3, .long x10), (5, .int x26)]) B eX1_misfit_127 4 rfl (by decide) [1, 2, 3, 4, 0] (by decide) (fun _ => rfl) ho (fun x26 ho => ?_)
              refine j_goto B eX1_misfit_130 ?_
              exact hself12 _ _ ho
      · refine j_ldc2 B eX1_misfit_26 q1012 ?_
        exact j_lretw B hr hQ eX1_misfit_29 ho
def sM_sure_L34 (a1 : Int32) (a2 : Int32) (w : Wd) (J8 : Int32 → Int32 → Option (Int32)) : Int32 → Int32 → Int32 → Option (Int32) :=
  fx (fun _ _ _ => none) (fun self13 x10 x11 x12 =>
    if (w.2.1 90 16) ≤ x12 then (J8 x10 x11) else (rd (inb x12 40) (w.2.1 12 (Int32.toNatClampNeg x12)) fun v14 => jn (fun z15 => nm z15 fun x17 => jn (fun z18 => nm z18 fun x20 => jn (fun z21 => nm z21 fun x23 => nm (x12 + (1 : Int32)) fun x24 => self13 x20 x23 x24) fun J22 => if x11 = 0 then (if 0 ≤ x17 then (J22 (0 : Int32)) else (J22 (1 : Int32))) else (J22 (1 : Int32))) fun J19 => if x10 = 0 then (if x17 ≤ 0 then (J19 (0 : Int32)) else (J19 (1 : Int32))) else (J19 (1 : Int32))) fun J16 => jn (rd (inb x12 40) (w.2.1 12 (Int32.toNatClampNeg x12)) fun v26 => if v26 = a2 then (rd (inb x12 40) (w.2.1 13 (Int32.toNatClampNeg x12)) fun v27 => if v27 = a1 then (rd (inb x12 40) (w.2.1 14 (Int32.toNatClampNeg x12)) fun v28 => J16 (-v28)) else (J16 (0 : Int32))) else (J16 (0 : Int32))) fun J25 => if v14 = a1 then (rd (inb x12 40) (w.2.1 13 (Int32.toNatClampNeg x12)) fun v29 => if v29 = a2 then (rd (inb x12 40) (w.2.1 14 (Int32.toNatClampNeg x12)) fun v30 => J16 v30) else (J25)) else (J25))) FU
def sM_sure (w : Wd) (a1 : Int32) (a2 : Int32) : Option (Int32) :=
  bd (sM_isOar w a1) fun v1 => if v1 = 0 then (some (-1 : Int32)) else (bd (sM_isOar w a2) fun v2 => if v2 = 0 then (some (-1 : Int32)) else (if a1 = a2 then (some (-2 : Int32)) else (nm (0 : Int32) fun x3 => nm (0 : Int32) fun x4 => nm (0 : Int32) fun x5 => jn (fun x6 x7 => jn (if x7 = 0 then (some (0 : Int32)) else (if x6 = 0 then (some (2 : Int32)) else (some (0 : Int32)))) fun J9 => if x6 = 0 then (J9) else (if x7 = 0 then (some (1 : Int32)) else (J9))) fun J8 => sM_sure_L34 a1 a2 w J8 x3 x4 x5)))
abbrev rmX1_sure : Room := { frames := 1, cells := 0, slots := 0, locals := 21 }
theorem pkX1_sure : PkV yX1_sure RX1 cX1_sure 7 (some .int) 2 := ⟨q1028, q1029, q58, q1030, by decide +kernel⟩
set_option maxHeartbeats 4000000 in
theorem met_X1_sure (l : Launch) (D : va_G) (g : Nat → ClassId) (ad : Nat → Nat) (w : Wd) (a1 : Int32) (a2 : Int32) (sz : Nat) (r : Int32) (ho : sM_sure w a1 a2 = some r) : Met l yX1_sure (ws_ yX1_sure cX1_sure 7 (some .int)) rmX1_sure (va_Pc [.ref (ad 99), .int a1, .int a2] (MPre D vwCl (tysG g) (cellsM g ad w) NT sz)) (QcI D vwCl (tysG g) (cellsM g ad w) r (va_A (cellsM g ad w) sz)) 0 0 (va_A (cellsM g ad w) sz) := by
  refine met_XJ (cw := cellsM g ad) (w := w) (cc := cX1_sure) (lv := [(0, .ref (ad 99)), (1, .int a1), (2, .int a2)]) pnX1 _ (Nat.le_of_ble_eq_true rfl) rfl ?_
  intro p e s m args below meth c R Q A B hN hr hsz hA hmm hRm hQ hAe
  unfold sM_sure at ho
  refine j_aload_n B eX1_sure_0 0 rfl ?_
  refine j_iload_n B eX1_sure_1 1 rfl ?_
  refine j_callVi (As := [.int a1]) B hA (met_X1_isOar l D g ad w a1) NT_ok pkX1_isOar q939 0 rfl rfl rfl rfl hRm ⟨Nat.le_of_ble_eq_true rfl, Nat.le_of_ble_eq_true rfl⟩ rfl rfl (Nat.le_of_ble_eq_true rfl) ⟨Nat.zero_le _, Nat.zero_le _⟩ eX1_sure_2 ho (fun v1 ho => ?_)
  refine j_if_eq B eX1_sure_5 ho (fun _ ho => ?_) (fun _ ho => ?_)
  · refine j_const B eX1_sure_16 ?_
    exact j_iret B hr hQ eX1_sure_17 ho
  · refine j_aload_n B eX1_sure_8 0 rfl ?_
    refine j_iload_n B eX1_sure_9 2 rfl ?_
    refine j_callVi (As := [.int a2]) B hA (met_X1_isOar l D g ad w a2) NT_ok pkX1_isOar q939 0 rfl rfl rfl rfl hRm ⟨Nat.le_of_ble_eq_true rfl, Nat.le_of_ble_eq_true rfl⟩ rfl rfl (Nat.le_of_ble_eq_true rfl) ⟨Nat.zero_le _, Nat.zero_le _⟩ eX1_sure_10 ho (fun v2 ho => ?_)
    refine j_if_ne B eX1_sure_13 ho (fun _ ho => ?_) (fun _ ho => ?_)
    · refine j_iload_n B eX1_sure_18 1 rfl ?_
      refine j_iload_n B eX1_sure_19 2 rfl ?_
      refine j_icmp_ne B eX1_sure_20 ho (fun _ ho => ?_) (fun _ ho => ?_)
      · refine j_const B eX1_sure_26 ?_
        refine j_istore_n (lv' := fun x3 => [(0, .ref (ad 99)), (1, .int a1), (2, .int a2), (3, .int x3)]) B eX1_sure_27 [1, 2, 3, 0] (by decide) (fun _ => rfl) ho (fun x3 ho => ?_)
        refine j_const B eX1_sure_28 ?_
        refine j_istore (lv' := fun x4 => [(0, .ref (ad 99)), (1, .int a1), (2, .int a2), (3, .int x3), (4, .int x4)]) B eX1_sure_29 [1, 2, 3, 4, 0] (by decide) (fun _ => rfl) ho (fun x4 ho => ?_)
        refine j_const B eX1_sure_31 ?_
        refine j_istore (lv' := fun x5 => [(0, .ref (ad 99)), (1, .int a1), (2, .int a2), (3, .int x3), (4, .int x4), (5, .int x5)]) B eX1_sure_32 [1, 2, 3, 4, 5, 0] (by decide) (fun _ => rfl) ho (fun x5 ho => ?_)
        refine jn2 (C := fun x6 x7 => XJ p l e R s m args below meth c 0 0 Q A D vwCl (cellsM g ad) 7 w 149 [(3, .int x6), (4, .int x7)] []) ho (fun x6 x7 ho => ?_) (fun J8 hJ8 ho => ?_)
        · refine j_iload_n B eX1_sure_149 0 rfl ?_
          refine jn0 (C := XJ p l e R s m args below meth c 0 0 Q A D vwCl (cellsM g ad) 7 w 162 [(3, .int x6), (4, .int x7)] []) ho (fun ho => ?_) (fun J9 hJ9 ho => ?_)
          · refine j_iload B eX1_sure_162 1 rfl ?_
            refine j_if_eq B eX1_sure_164 ho (fun _ ho => ?_) (fun _ ho => ?_)
            · refine j_const B eX1_sure_175 ?_
              exact j_iret B hr hQ eX1_sure_176 ho
            · refine j_iload_n B eX1_sure_167 0 rfl ?_
              refine j_if_ne B eX1_sure_168 ho (fun _ ho => ?_) (fun _ ho => ?_)
              · refine j_const B eX1_sure_175 ?_
                exact j_iret B hr hQ eX1_sure_176 ho
              · refine j_const B eX1_sure_171 ?_
                refine j_goto B eX1_sure_172 ?_
                exact j_iret B hr hQ eX1_sure_176 ho
          · refine j_if_eq B eX1_sure_150 ho (fun _ ho => ?_) (fun _ ho => ?_)
            · exact hJ9 ho
            · refine j_iload B eX1_sure_153 1 rfl ?_
              refine j_if_ne B eX1_sure_155 ho (fun _ ho => ?_) (fun _ ho => ?_)
              · exact hJ9 ho
              · refine j_const B eX1_sure_158 ?_
                refine j_goto B eX1_sure_159 ?_
                exact j_iret B hr hQ eX1_sure_176 ho
        · unfold sM_sure_L34 at ho
          refine fx3 (C := fun x10 x11 x12 => XJ p l e R s m args below meth c 0 0 Q A D vwCl (cellsM g ad) 7 w 34 [(0, .ref (ad 99)), (1, .int a1), (2, .int a2), (3, .int x10), (4, .int x11), (5, .int x12)] []) (fun self13 hself13 x10 x11 x12 ho => ?_) FU _ _ _ ho
          refine j_iload B eX1_sure_34 5 rfl ?_
          refine j_aload_n B eX1_sure_36 0 rfl ?_
          refine gfM_16 B eX1_sure_37 ?_
          refine j_icmp_ge B eX1_sure_40 ho (fun _ ho => ?_) (fun _ ho => ?_)
          · refine j_lsub (lv' := [(3, .int x10), (4, .int x11)]) [3, 4] rfl ?_
            exact hJ8 _ _ ho
          · refine j_aload_n B eX1_sure_43 0 rfl ?_
            refine gfM_12 B eX1_sure_44 ?_
            refine j_iload B eX1_sure_47 5 rfl ?_
            refine ldM_12 B eX1_sure_49 ho (fun v14 ho => ?_)
            refine j_iload_n B eX1_sure_50 1 rfl ?_
            refine jn1 (C := fun z15 => XJ p l e R s m args below meth c 0 0 Q A D vwCl (cellsM g ad) 7 w 109 [(0, .ref (ad 99)), (1, .int a1), (2, .int a2), (3, .int x10), (4, .int x11), (5, .int x12)] [.int z15]) ho (fun z15 ho => ?_) (fun J16 hJ16 ho => ?_)
            · refine j_istore (lv' := fun x17 => [(0, .ref (ad 99)), (1, .int a1), (2, .int a2), (3, .int x10), (4, .int x11), (5, .int x12), (6, .int x17)]) B eX1_sure_109 [1, 2, 3, 4, 5, 6, 0] (by decide) (fun _ => rfl) ho (fun x17 ho => ?_)
              refine j_iload_n B eX1_sure_111 3 rfl ?_
              refine jn1 (C := fun z18 => XJ p l e R s m args below meth c 0 0 Q A D vwCl (cellsM g ad) 7 w 125 [(0, .ref (ad 99)), (1, .int a1), (2, .int a2), (4, .int x11), (5, .int x12), (6, .int x17)] [.int z18]) ho (fun z18 ho => ?_) (fun J19 hJ19 ho => ?_)
              · refine j_istore_n (lv' := fun x20 => [(0, .ref (ad 99)), (1, .int a1), (2, .int a2), (3, .int x20), (4, .int x11), (5, .int x12), (6, .int x17)]) B eX1_sure_125 [1, 2, 3, 0, 4, 5, 6] (by decide) (fun _ => rfl) ho (fun x20 ho => ?_)
                refine j_iload B eX1_sure_126 4 rfl ?_
                refine jn1 (C := fun z21 => XJ p l e R s m args below meth c 0 0 Q A D vwCl (cellsM g ad) 7 w 141 [(0, .ref (ad 99)), (1, .int a1), (2, .int a2), (3, .int x20), (5, .int x12)] [.int z21]) ho (fun z21 ho => ?_) (fun J22 hJ22 ho => ?_)
                · refine j_istore (lv' := fun x23 => [(0, .ref (ad 99)), (1, .int a1), (2, .int a2), (3, .int x20), (4, .int x23), (5, .int x12)]) B eX1_sure_141 [1, 2, 3, 4, 0, 5] (by decide) (fun _ => rfl) ho (fun x23 ho => ?_)
                  refine j_iinc (d := 1) (lv' := fun x24 => [(0, .ref (ad 99)), (1, .int a1), (2, .int a2), (3, .int x20), (4, .int x23), (5, .int x24)]) B eX1_sure_143 5 rfl (by decide) [1, 2, 3, 4, 5, 0] (by decide) (fun _ => rfl) ho (fun x24 ho => ?_)
                  refine j_goto B eX1_sure_146 ?_
                  exact hself13 _ _ _ ho
                · refine j_if_ne B eX1_sure_128 ho (fun _ ho => ?_) (fun _ ho => ?_)
                  · refine j_const B eX1_sure_136 ?_
                    refine j_goto B eX1_sure_137 ?_
                    refine j_lsub (lv' := [(0, .ref (ad 99)), (1, .int a1), (2, .int a2), (3, .int x20), (5, .int x12)]) [0, 1, 2, 3, 5] rfl ?_
                    exact hJ22 _ ho
                  · refine j_iload B eX1_sure_131 6 rfl ?_
                    refine j_if_ge B eX1_sure_133 ho (fun _ ho => ?_) (fun _ ho => ?_)
                    · refine j_const B eX1_sure_140 ?_
                      refine j_lsub (lv' := [(0, .ref (ad 99)), (1, .int a1), (2, .int a2), (3, .int x20), (5, .int x12)]) [0, 1, 2, 3, 5] rfl ?_
                      exact hJ22 _ ho
                    · refine j_const B eX1_sure_136 ?_
                      refine j_goto B eX1_sure_137 ?_
                      refine j_lsub (lv' := [(0, .ref (ad 99)), (1, .int a1), (2, .int a2), (3, .int x20), (5, .int x12)]) [0, 1, 2, 3, 5] rfl ?_
                      exact hJ22 _ ho
              · refine j_if_ne B eX1_sure_112 ho (fun _ ho => ?_) (fun _ ho => ?_)
                · refine j_const B eX1_sure_120 ?_
                  refine j_goto B eX1_sure_121 ?_
                  refine j_lsub (lv' := [(0, .ref (ad 99)), (1, .int a1), (2, .int a2), (4, .int x11), (5, .int x12), (6, .int x17)]) [0, 1, 2, 4, 5, 6] rfl ?_
                  exact hJ19 _ ho
                · refine j_iload B eX1_sure_115 6 rfl ?_
                  refine j_if_le B eX1_sure_117 ho (fun _ ho => ?_) (fun _ ho => ?_)
                  · refine j_const B eX1_sure_124 ?_
                    refine j_lsub (lv' := [(0, .ref (ad 99)), (1, .int a1), (2, .int a2), (4, .int x11), (5, .int x12), (6, .int x17)]) [0, 1, 2, 4, 5, 6] rfl ?_
                    exact hJ19 _ ho
                  · refine j_const B eX1_sure_120 ?_
                    refine j_goto B eX1_sure_121 ?_
                    refine j_lsub (lv' := [(0, .ref (ad 99)), (1, .int a1), (2, .int a2), (4, .int x11), (5, .int x12), (6, .int x17)]) [0, 1, 2, 4, 5, 6] rfl ?_
                    exact hJ19 _ ho
            · refine jn0 (C := XJ p l e R s m args below meth c 0 0 Q A D vwCl (cellsM g ad) 7 w 75 [(0, .ref (ad 99)), (1, .int a1), (2, .int a2), (3, .int x10), (4, .int x11), (5, .int x12)] []) ho (fun ho => ?_) (fun J25 hJ25 ho => ?_)
              · refine j_aload_n B eX1_sure_75 0 rfl ?_
                refine gfM_12 B eX1_sure_76 ?_
                refine j_iload B eX1_sure_79 5 rfl ?_
                refine ldM_12 B eX1_sure_81 ho (fun v26 ho => ?_)
                refine j_iload_n B eX1_sure_82 2 rfl ?_
                refine j_icmp_ne B eX1_sure_83 ho (fun _ ho => ?_) (fun _ ho => ?_)
                · refine j_const B eX1_sure_108 ?_
                  exact hJ16 _ ho
                · refine j_aload_n B eX1_sure_86 0 rfl ?_
                  refine gfM_13 B eX1_sure_87 ?_
                  refine j_iload B eX1_sure_90 5 rfl ?_
                  refine ldM_13 B eX1_sure_92 ho (fun v27 ho => ?_)
                  refine j_iload_n B eX1_sure_93 1 rfl ?_
                  refine j_icmp_ne B eX1_sure_94 ho (fun _ ho => ?_) (fun _ ho => ?_)
                  · refine j_const B eX1_sure_108 ?_
                    exact hJ16 _ ho
                  · refine j_aload_n B eX1_sure_97 0 rfl ?_
                    refine gfM_14 B eX1_sure_98 ?_
                    refine j_iload B eX1_sure_101 5 rfl ?_
                    refine ldM_14 B eX1_sure_103 ho (fun v28 ho => ?_)
                    refine j_ineg B eX1_sure_104 ?_
                    refine j_goto B eX1_sure_105 ?_
                    exact hJ16 _ ho
              · refine j_icmp_ne B eX1_sure_51 ho (fun _ ho => ?_) (fun _ ho => ?_)
                · exact hJ25 ho
                · refine j_aload_n B eX1_sure_54 0 rfl ?_
                  refine gfM_13 B eX1_sure_55 ?_
                  refine j_iload B eX1_sure_58 5 rfl ?_
                  refine ldM_13 B eX1_sure_60 ho (fun v29 ho => ?_)
                  refine j_iload_n B eX1_sure_61 2 rfl ?_
                  refine j_icmp_ne B eX1_sure_62 ho (fun _ ho => ?_) (fun _ ho => ?_)
                  · exact hJ25 ho
                  · refine j_aload_n B eX1_sure_65 0 rfl ?_
                    refine gfM_14 B eX1_sure_66 ?_
                    refine j_iload B eX1_sure_69 5 rfl ?_
                    refine ldM_14 B eX1_sure_71 ho (fun v30 ho => ?_)
                    refine j_goto B eX1_sure_72 ?_
                    exact hJ16 _ ho
      · refine j_const B eX1_sure_23 ?_
        exact j_iret B hr hQ eX1_sure_25 ho
    · refine j_const B eX1_sure_16 ?_
      exact j_iret B hr hQ eX1_sure_17 ho
def sM_mayBeOut (w : Wd) (a1 : Int32) (a2 : Int32) : Option (Int32) :=
  rd (inb a1 16) (w.2.1 4 (Int32.toNatClampNeg a1)) fun v1 => if v1 = 0 then (rd (inb a1 16) (w.2.1 0 (Int32.toNatClampNeg a1)) fun v2 => if v2 = (4 : Int32) then (if a2 < (7 : Int32) then (some (0 : Int32)) else (some (1 : Int32))) else (some (1 : Int32))) else (some (0 : Int32))
abbrev rmX1_mayBeOut : Room := { frames := 0, cells := 0, slots := 0, locals := 0 }
theorem pkX1_mayBeOut : PkV yX1_mayBeOut RX1 cX1_mayBeOut 3 (some .boolean) 2 := ⟨q1047, qs40, q58, q1048, by decide +kernel⟩
set_option maxHeartbeats 4000000 in
theorem met_X1_mayBeOut (l : Launch) (D : va_G) (g : Nat → ClassId) (ad : Nat → Nat) (w : Wd) (a1 : Int32) (a2 : Int32) (sz : Nat) (r : Int32) (ho : sM_mayBeOut w a1 a2 = some r) : Met l yX1_mayBeOut (ws_ yX1_mayBeOut cX1_mayBeOut 3 (some .boolean)) rmX1_mayBeOut (va_Pc [.ref (ad 99), .int a1, .int a2] (MPre D vwCl (tysG g) (cellsM g ad w) NT sz)) (QcI D vwCl (tysG g) (cellsM g ad w) r (va_A (cellsM g ad w) sz)) 0 0 (va_A (cellsM g ad w) sz) := by
  refine met_XJ (cw := cellsM g ad) (w := w) (cc := cX1_mayBeOut) (lv := [(0, .ref (ad 99)), (1, .int a1), (2, .int a2)]) pnX1 _ (Nat.le_of_ble_eq_true rfl) rfl ?_
  intro p e s m args below meth c R Q A B hN hr hsz hA hmm hRm hQ hAe
  unfold sM_mayBeOut at ho
  refine j_aload_n B eX1_mayBeOut_0 0 rfl ?_
  refine gfM_4 B eX1_mayBeOut_1 ?_
  refine j_iload_n B eX1_mayBeOut_4 1 rfl ?_
  refine ldM_4 B eX1_mayBeOut_5 ho (fun v1 ho => ?_)
  refine j_if_ne B eX1_mayBeOut_6 ho (fun _ ho => ?_) (fun _ ho => ?_)
  · refine j_const B eX1_mayBeOut_29 ?_
    exact j_zret B hr rfl hQ eX1_mayBeOut_30 ho
  · refine j_aload_n B eX1_mayBeOut_9 0 rfl ?_
    refine gfM_0 B eX1_mayBeOut_10 ?_
    refine j_iload_n B eX1_mayBeOut_13 1 rfl ?_
    refine ldM_0 B eX1_mayBeOut_14 ho (fun v2 ho => ?_)
    refine j_const B eX1_mayBeOut_15 ?_
    refine j_icmp_ne B eX1_mayBeOut_16 ho (fun _ ho => ?_) (fun _ ho => ?_)
    · refine j_const B eX1_mayBeOut_25 ?_
      refine j_goto B eX1_mayBeOut_26 ?_
      exact j_zret B hr rfl hQ eX1_mayBeOut_30 ho
    · refine j_iload_n B eX1_mayBeOut_19 2 rfl ?_
      refine j_const B eX1_mayBeOut_20 ?_
      refine j_icmp_lt B eX1_mayBeOut_22 ho (fun _ ho => ?_) (fun _ ho => ?_)
      · refine j_const B eX1_mayBeOut_29 ?_
        exact j_zret B hr rfl hQ eX1_mayBeOut_30 ho
      · refine j_const B eX1_mayBeOut_25 ?_
        refine j_goto B eX1_mayBeOut_26 ?_
        exact j_zret B hr rfl hQ eX1_mayBeOut_30 ho
def sM_canSit (w : Wd) (a1 : Int32) (a2 : Int32) (a3 : Int32) : Option (Int32) :=
  rd (inb a1 16) (w.2.1 2 (Int32.toNatClampNeg a1)) fun v1 => jn (fun z2 => nm z2 fun x4 => if x4 = 0 then (some (0 : Int32)) else (bd (sM_mayBeOut w a1 a3) fun v5 => if v5 = 0 then (some (0 : Int32)) else (some (1 : Int32)))) fun J3 => if v1 < 0 then (J3 (1 : Int32)) else (rd (inb a1 16) (w.2.1 2 (Int32.toNatClampNeg a1)) fun v6 => if v6 = a2 then (rd (inb a1 16) (w.2.1 3 (Int32.toNatClampNeg a1)) fun v7 => if v7 = (8 : Int32) then (J3 (0 : Int32)) else (J3 (1 : Int32))) else (J3 (0 : Int32)))
abbrev rmX1_canSit : Room := { frames := 1, cells := 0, slots := 0, locals := 22 }
theorem pkX1_canSit : PkV yX1_canSit RX1 cX1_canSit 5 (some .boolean) 3 := ⟨q1043, qs39, q58, q1044, by decide +kernel⟩
set_option maxHeartbeats 4000000 in
theorem met_X1_canSit (l : Launch) (D : va_G) (g : Nat → ClassId) (ad : Nat → Nat) (w : Wd) (a1 : Int32) (a2 : Int32) (a3 : Int32) (sz : Nat) (r : Int32) (ho : sM_canSit w a1 a2 a3 = some r) : Met l yX1_canSit (ws_ yX1_canSit cX1_canSit 5 (some .boolean)) rmX1_canSit (va_Pc [.ref (ad 99), .int a1, .int a2, .int a3] (MPre D vwCl (tysG g) (cellsM g ad w) NT sz)) (QcI D vwCl (tysG g) (cellsM g ad w) r (va_A (cellsM g ad w) sz)) 0 0 (va_A (cellsM g ad w) sz) := by
  refine met_XJ (cw := cellsM g ad) (w := w) (cc := cX1_canSit) (lv := [(0, .ref (ad 99)), (1, .int a1), (2, .int a2), (3, .int a3)]) pnX1 _ (Nat.le_of_ble_eq_true rfl) rfl ?_
  intro p e s m args below meth c R Q A B hN hr hsz hA hmm hRm hQ hAe
  unfold sM_canSit at ho
  refine j_aload_n B eX1_canSit_0 0 rfl ?_
  refine gfM_2 B eX1_canSit_1 ?_
  refine j_iload_n B eX1_canSit_4 1 rfl ?_
  refine ldM_2 B eX1_canSit_5 ho (fun v1 ho => ?_)
  refine jn1 (C := fun z2 => XJ p l e R s m args below meth c 0 0 Q A D vwCl (cellsM g ad) 5 w 35 [(0, .ref (ad 99)), (1, .int a1), (3, .int a3)] [.int z2]) ho (fun z2 ho => ?_) (fun J3 hJ3 ho => ?_)
  · refine j_istore (lv' := fun x4 => [(0, .ref (ad 99)), (1, .int a1), (3, .int a3), (4, .int x4)]) B eX1_canSit_35 [1, 2, 3, 0] (by decide) (fun _ => rfl) ho (fun x4 ho => ?_)
    refine j_iload B eX1_canSit_37 3 rfl ?_
    refine j_if_eq B eX1_canSit_39 ho (fun _ ho => ?_) (fun _ ho => ?_)
    · refine j_const B eX1_canSit_55 ?_
      exact j_zret B hr rfl hQ eX1_canSit_56 ho
    · refine j_aload_n B eX1_canSit_42 0 rfl ?_
      refine j_iload_n B eX1_canSit_43 1 rfl ?_
      refine j_iload_n B eX1_canSit_44 2 rfl ?_
      refine j_callVi (As := [.int a1, .int a3]) B hA (met_X1_mayBeOut l D g ad w a1 a3) NT_ok pkX1_mayBeOut q1045 0 rfl rfl rfl rfl hRm ⟨Nat.le_of_ble_eq_true rfl, Nat.le_of_ble_eq_true rfl⟩ rfl rfl (Nat.le_of_ble_eq_true rfl) ⟨Nat.zero_le _, Nat.zero_le _⟩ eX1_canSit_45 ho (fun v5 ho => ?_)
      refine j_if_eq B eX1_canSit_48 ho (fun _ ho => ?_) (fun _ ho => ?_)
      · refine j_const B eX1_canSit_55 ?_
        exact j_zret B hr rfl hQ eX1_canSit_56 ho
      · refine j_const B eX1_canSit_51 ?_
        refine j_goto B eX1_canSit_52 ?_
        exact j_zret B hr rfl hQ eX1_canSit_56 ho
  · refine j_if_lt B eX1_canSit_6 ho (fun _ ho => ?_) (fun _ ho => ?_)
    · refine j_const B eX1_canSit_30 ?_
      refine j_goto B eX1_canSit_31 ?_
      refine j_lsub (lv' := [(0, .ref (ad 99)), (1, .int a1), (3, .int a3)]) [0, 1, 3] rfl ?_
      exact hJ3 _ ho
    · refine j_aload_n B eX1_canSit_9 0 rfl ?_
      refine gfM_2 B eX1_canSit_10 ?_
      refine j_iload_n B eX1_canSit_13 1 rfl ?_
      refine ldM_2 B eX1_canSit_14 ho (fun v6 ho => ?_)
      refine j_iload_n B eX1_canSit_15 2 rfl ?_
      refine j_icmp_ne B eX1_canSit_16 ho (fun _ ho => ?_) (fun _ ho => ?_)
      · refine j_const B eX1_canSit_34 ?_
        refine j_lsub (lv' := [(0, .ref (ad 99)), (1, .int a1), (3, .int a3)]) [0, 1, 3] rfl ?_
        exact hJ3 _ ho
      · refine j_aload_n B eX1_canSit_19 0 rfl ?_
        refine gfM_3 B eX1_canSit_20 ?_
        refine j_iload_n B eX1_canSit_23 1 rfl ?_
        refine ldM_3 B eX1_canSit_24 ho (fun v7 ho => ?_)
        refine j_const B eX1_canSit_25 ?_
        refine j_icmp_eq B eX1_canSit_27 ho (fun _ ho => ?_) (fun _ ho => ?_)
        · refine j_const B eX1_canSit_34 ?_
          refine j_lsub (lv' := [(0, .ref (ad 99)), (1, .int a1), (3, .int a3)]) [0, 1, 3] rfl ?_
          exact hJ3 _ ho
        · refine j_const B eX1_canSit_30 ?_
          refine j_goto B eX1_canSit_31 ?_
          refine j_lsub (lv' := [(0, .ref (ad 99)), (1, .int a1), (3, .int a3)]) [0, 1, 3] rfl ?_
          exact hJ3 _ ho
