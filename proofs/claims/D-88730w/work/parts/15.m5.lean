set_option maxRecDepth 100000
theorem eX1_longest_0 : D1 cX1_longest 0 (.iload_n 2) 1 := ⟨by decide +kernel, rfl⟩
theorem eX1_longest_1 : D1 cX1_longest 1 (.istore_n 3) 2 := ⟨by decide +kernel, rfl⟩
theorem eX1_longest_2 : DC cX1_longest 2 (0) 3 := Or.inl ⟨0, ⟨by decide +kernel, rfl⟩, by decide⟩
theorem eX1_longest_3 : D2 cX1_longest 3 (.istore 4) 5 := ⟨by decide +kernel, rfl⟩
theorem eX1_longest_5 : D2 cX1_longest 5 (.iload 4) 7 := ⟨by decide +kernel, rfl⟩
theorem eX1_longest_7 : DC cX1_longest 7 (3) 8 := Or.inl ⟨3, ⟨by decide +kernel, rfl⟩, by decide⟩
theorem eX1_longest_8 : DJ cX1_longest 8 (.if_icmp .ge) 25 11 := ⟨17, by decide +kernel, by decide, rfl⟩
theorem eX1_longest_11 : D1 cX1_longest 11 (.aload_n 0) 12 := ⟨by decide +kernel, rfl⟩
theorem eX1_longest_12 : D3 cX1_longest 12 (.getfield 133) 15 := ⟨by decide +kernel, rfl⟩
theorem eX1_longest_15 : D2 cX1_longest 15 (.iload 4) 17 := ⟨by decide +kernel, rfl⟩
theorem eX1_longest_17 : DC cX1_longest 17 (0) 18 := Or.inl ⟨0, ⟨by decide +kernel, rfl⟩, by decide⟩
theorem eX1_longest_18 : D1 cX1_longest 18 (.iastore) 19 := ⟨by decide +kernel, rfl⟩
theorem eX1_longest_19 : D3 cX1_longest 19 (.iinc 4 1) 22 := ⟨by decide +kernel, rfl⟩
theorem eX1_longest_22 : DJ cX1_longest 22 .goto 5 25 := ⟨-17, by decide +kernel, by decide, rfl⟩
theorem eX1_longest_25 : DC cX1_longest 25 (7) 27 := Or.inr (Or.inl ⟨7, ⟨by decide +kernel, rfl⟩, by decide⟩)
theorem eX1_longest_27 : D2 cX1_longest 27 (.istore 4) 29 := ⟨by decide +kernel, rfl⟩
theorem eX1_longest_29 : D2 cX1_longest 29 (.iload 4) 31 := ⟨by decide +kernel, rfl⟩
theorem eX1_longest_31 : DJ cX1_longest 31 (.ifCond .lt) 84 34 := ⟨53, by decide +kernel, by decide, rfl⟩
theorem eX1_longest_34 : D1 cX1_longest 34 (.iload_n 1) 35 := ⟨by decide +kernel, rfl⟩
theorem eX1_longest_35 : D2 cX1_longest 35 (.iload 4) 37 := ⟨by decide +kernel, rfl⟩
theorem eX1_longest_37 : D1 cX1_longest 37 (.ishr) 38 := ⟨by decide +kernel, rfl⟩
theorem eX1_longest_38 : DC cX1_longest 38 (1) 39 := Or.inl ⟨1, ⟨by decide +kernel, rfl⟩, by decide⟩
theorem eX1_longest_39 : D1 cX1_longest 39 (.iand) 40 := ⟨by decide +kernel, rfl⟩
theorem eX1_longest_40 : DJ cX1_longest 40 (.ifCond .ne) 46 43 := ⟨6, by decide +kernel, by decide, rfl⟩
theorem eX1_longest_43 : DJ cX1_longest 43 .goto 78 46 := ⟨35, by decide +kernel, by decide, rfl⟩
theorem eX1_longest_46 : D1 cX1_longest 46 (.aload_n 0) 47 := ⟨by decide +kernel, rfl⟩
theorem eX1_longest_47 : D3 cX1_longest 47 (.getfield 130) 50 := ⟨by decide +kernel, rfl⟩
theorem eX1_longest_50 : D2 cX1_longest 50 (.iload 4) 52 := ⟨by decide +kernel, rfl⟩
theorem eX1_longest_52 : D1 cX1_longest 52 (.iload_n 3) 53 := ⟨by decide +kernel, rfl⟩
theorem eX1_longest_53 : DC cX1_longest 53 (3) 54 := Or.inl ⟨3, ⟨by decide +kernel, rfl⟩, by decide⟩
theorem eX1_longest_54 : D1 cX1_longest 54 (.irem) 55 := ⟨by decide +kernel, rfl⟩
theorem eX1_longest_55 : D1 cX1_longest 55 (.iastore) 56 := ⟨by decide +kernel, rfl⟩
theorem eX1_longest_56 : D1 cX1_longest 56 (.aload_n 0) 57 := ⟨by decide +kernel, rfl⟩
theorem eX1_longest_57 : D3 cX1_longest 57 (.getfield 133) 60 := ⟨by decide +kernel, rfl⟩
theorem eX1_longest_60 : D1 cX1_longest 60 (.iload_n 3) 61 := ⟨by decide +kernel, rfl⟩
theorem eX1_longest_61 : DC cX1_longest 61 (3) 62 := Or.inl ⟨3, ⟨by decide +kernel, rfl⟩, by decide⟩
theorem eX1_longest_62 : D1 cX1_longest 62 (.irem) 63 := ⟨by decide +kernel, rfl⟩
theorem eX1_longest_63 : D1 cX1_longest 63 (.dup2) 64 := ⟨by decide +kernel, rfl⟩
theorem eX1_longest_64 : D1 cX1_longest 64 (.iaload) 65 := ⟨by decide +kernel, rfl⟩
theorem eX1_longest_65 : D1 cX1_longest 65 (.aload_n 0) 66 := ⟨by decide +kernel, rfl⟩
theorem eX1_longest_66 : D3 cX1_longest 66 (.getfield 38) 69 := ⟨by decide +kernel, rfl⟩
theorem eX1_longest_69 : D2 cX1_longest 69 (.iload 4) 71 := ⟨by decide +kernel, rfl⟩
theorem eX1_longest_71 : D1 cX1_longest 71 (.iaload) 72 := ⟨by decide +kernel, rfl⟩
theorem eX1_longest_72 : D1 cX1_longest 72 (.iadd) 73 := ⟨by decide +kernel, rfl⟩
theorem eX1_longest_73 : D1 cX1_longest 73 (.iastore) 74 := ⟨by decide +kernel, rfl⟩
theorem eX1_longest_74 : D1 cX1_longest 74 (.iload_n 3) 75 := ⟨by decide +kernel, rfl⟩
theorem eX1_longest_75 : DC cX1_longest 75 (3) 76 := Or.inl ⟨3, ⟨by decide +kernel, rfl⟩, by decide⟩
theorem eX1_longest_76 : D1 cX1_longest 76 (.idiv) 77 := ⟨by decide +kernel, rfl⟩
theorem eX1_longest_77 : D1 cX1_longest 77 (.istore_n 3) 78 := ⟨by decide +kernel, rfl⟩
theorem eX1_longest_78 : D3 cX1_longest 78 (.iinc 4 (-1)) 81 := ⟨by decide +kernel, rfl⟩
theorem eX1_longest_81 : DJ cX1_longest 81 .goto 29 84 := ⟨-52, by decide +kernel, by decide, rfl⟩
theorem eX1_longest_84 : D1 cX1_longest 84 (.aload_n 0) 85 := ⟨by decide +kernel, rfl⟩
theorem eX1_longest_85 : D3 cX1_longest 85 (.getfield 133) 88 := ⟨by decide +kernel, rfl⟩
theorem eX1_longest_88 : DC cX1_longest 88 (0) 89 := Or.inl ⟨0, ⟨by decide +kernel, rfl⟩, by decide⟩
theorem eX1_longest_89 : D1 cX1_longest 89 (.iaload) 90 := ⟨by decide +kernel, rfl⟩
theorem eX1_longest_90 : D1 cX1_longest 90 (.aload_n 0) 91 := ⟨by decide +kernel, rfl⟩
theorem eX1_longest_91 : D3 cX1_longest 91 (.getfield 133) 94 := ⟨by decide +kernel, rfl⟩
theorem eX1_longest_94 : DC cX1_longest 94 (1) 95 := Or.inl ⟨1, ⟨by decide +kernel, rfl⟩, by decide⟩
theorem eX1_longest_95 : D1 cX1_longest 95 (.iaload) 96 := ⟨by decide +kernel, rfl⟩
theorem eX1_longest_96 : DJ cX1_longest 96 (.if_icmp .le) 108 99 := ⟨12, by decide +kernel, by decide, rfl⟩
theorem eX1_longest_99 : D1 cX1_longest 99 (.aload_n 0) 100 := ⟨by decide +kernel, rfl⟩
theorem eX1_longest_100 : D3 cX1_longest 100 (.getfield 133) 103 := ⟨by decide +kernel, rfl⟩
theorem eX1_longest_103 : DC cX1_longest 103 (0) 104 := Or.inl ⟨0, ⟨by decide +kernel, rfl⟩, by decide⟩
theorem eX1_longest_104 : D1 cX1_longest 104 (.iaload) 105 := ⟨by decide +kernel, rfl⟩
theorem eX1_longest_105 : DJ cX1_longest 105 .goto 114 108 := ⟨9, by decide +kernel, by decide, rfl⟩
theorem eX1_longest_108 : D1 cX1_longest 108 (.aload_n 0) 109 := ⟨by decide +kernel, rfl⟩
theorem eX1_longest_109 : D3 cX1_longest 109 (.getfield 133) 112 := ⟨by decide +kernel, rfl⟩
theorem eX1_longest_112 : DC cX1_longest 112 (1) 113 := Or.inl ⟨1, ⟨by decide +kernel, rfl⟩, by decide⟩
theorem eX1_longest_113 : D1 cX1_longest 113 (.iaload) 114 := ⟨by decide +kernel, rfl⟩
theorem eX1_longest_114 : D2 cX1_longest 114 (.istore 4) 116 := ⟨by decide +kernel, rfl⟩
theorem eX1_longest_116 : D2 cX1_longest 116 (.iload 4) 118 := ⟨by decide +kernel, rfl⟩
theorem eX1_longest_118 : D1 cX1_longest 118 (.aload_n 0) 119 := ⟨by decide +kernel, rfl⟩
theorem eX1_longest_119 : D3 cX1_longest 119 (.getfield 133) 122 := ⟨by decide +kernel, rfl⟩
theorem eX1_longest_122 : DC cX1_longest 122 (2) 123 := Or.inl ⟨2, ⟨by decide +kernel, rfl⟩, by decide⟩
theorem eX1_longest_123 : D1 cX1_longest 123 (.iaload) 124 := ⟨by decide +kernel, rfl⟩
theorem eX1_longest_124 : DJ cX1_longest 124 (.if_icmp .le) 132 127 := ⟨8, by decide +kernel, by decide, rfl⟩
theorem eX1_longest_127 : D2 cX1_longest 127 (.iload 4) 129 := ⟨by decide +kernel, rfl⟩
theorem eX1_longest_129 : DJ cX1_longest 129 .goto 138 132 := ⟨9, by decide +kernel, by decide, rfl⟩
theorem eX1_longest_132 : D1 cX1_longest 132 (.aload_n 0) 133 := ⟨by decide +kernel, rfl⟩
theorem eX1_longest_133 : D3 cX1_longest 133 (.getfield 133) 136 := ⟨by decide +kernel, rfl⟩
theorem eX1_longest_136 : DC cX1_longest 136 (2) 137 := Or.inl ⟨2, ⟨by decide +kernel, rfl⟩, by decide⟩
theorem eX1_longest_137 : D1 cX1_longest 137 (.iaload) 138 := ⟨by decide +kernel, rfl⟩
theorem eX1_longest_138 : D1 cX1_longest 138 (.ireturn) 139 := ⟨by decide +kernel, rfl⟩
theorem eX1_trailer_0 : D1 cX1_trailer 0 (.iload_n 1) 1 := ⟨by decide +kernel, rfl⟩
theorem eX1_trailer_1 : D1 cX1_trailer 1 (.i2l) 2 := ⟨by decide +kernel, rfl⟩
theorem eX1_trailer_2 : D1 cX1_trailer 2 (.lconst 0) 3 := ⟨by decide +kernel, rfl⟩
theorem eX1_trailer_3 : DC cX1_trailer 3 (1) 4 := Or.inl ⟨1, ⟨by decide +kernel, rfl⟩, by decide⟩
theorem eX1_trailer_4 : D1 cX1_trailer 4 (.aload_n 0) 5 := ⟨by decide +kernel, rfl⟩
theorem eX1_trailer_5 : D3 cX1_trailer 5 (.getfield 139) 8 := ⟨by decide +kernel, rfl⟩
theorem eX1_trailer_8 : D1 cX1_trailer 8 (.ishl) 9 := ⟨by decide +kernel, rfl⟩
theorem eX1_trailer_9 : DC cX1_trailer 9 (1) 10 := Or.inl ⟨1, ⟨by decide +kernel, rfl⟩, by decide⟩
theorem eX1_trailer_10 : D1 cX1_trailer 10 (.isub) 11 := ⟨by decide +kernel, rfl⟩
theorem eX1_trailer_11 : D1 cX1_trailer 11 (.i2l) 12 := ⟨by decide +kernel, rfl⟩
theorem eX1_trailer_12 : D3 cX1_trailer 12 (.invokestatic 155) 15 := ⟨by decide +kernel, rfl⟩
theorem eX1_trailer_15 : DJ cX1_trailer 15 (.ifCond .eq) 30 18 := ⟨15, by decide +kernel, by decide, rfl⟩
theorem eX1_trailer_18 : D1 cX1_trailer 18 (.iload_n 2) 19 := ⟨by decide +kernel, rfl⟩
theorem eX1_trailer_19 : D1 cX1_trailer 19 (.i2l) 20 := ⟨by decide +kernel, rfl⟩
theorem eX1_trailer_20 : D1 cX1_trailer 20 (.lconst 1) 21 := ⟨by decide +kernel, rfl⟩
theorem eX1_trailer_21 : D3 cX1_trailer 21 (.ldc2_w 178) 24 := ⟨by decide +kernel, rfl⟩
theorem eX1_trailer_24 : D3 cX1_trailer 24 (.invokestatic 155) 27 := ⟨by decide +kernel, rfl⟩
theorem eX1_trailer_27 : DJ cX1_trailer 27 (.ifCond .ne) 33 30 := ⟨6, by decide +kernel, by decide, rfl⟩
theorem eX1_trailer_30 : DC cX1_trailer 30 (-2) 32 := Or.inr (Or.inl ⟨-2, ⟨by decide +kernel, rfl⟩, by decide⟩)
theorem eX1_trailer_32 : D1 cX1_trailer 32 (.ireturn) 33 := ⟨by decide +kernel, rfl⟩
theorem eX1_trailer_33 : DC cX1_trailer 33 (1) 34 := Or.inl ⟨1, ⟨by decide +kernel, rfl⟩, by decide⟩
theorem eX1_trailer_34 : D1 cX1_trailer 34 (.istore_n 3) 35 := ⟨by decide +kernel, rfl⟩
theorem eX1_trailer_35 : D1 cX1_trailer 35 (.iload_n 1) 36 := ⟨by decide +kernel, rfl⟩
theorem eX1_trailer_36 : D3 cX1_trailer 36 (.invokestatic 189) 39 := ⟨by decide +kernel, rfl⟩
theorem eX1_trailer_39 : D2 cX1_trailer 39 (.istore 4) 41 := ⟨by decide +kernel, rfl⟩
theorem eX1_trailer_41 : D2 cX1_trailer 41 (.iload 4) 43 := ⟨by decide +kernel, rfl⟩
theorem eX1_trailer_43 : DJ cX1_trailer 43 (.ifCond .le) 56 46 := ⟨13, by decide +kernel, by decide, rfl⟩
theorem eX1_trailer_46 : D1 cX1_trailer 46 (.iload_n 3) 47 := ⟨by decide +kernel, rfl⟩
theorem eX1_trailer_47 : DC cX1_trailer 47 (3) 48 := Or.inl ⟨3, ⟨by decide +kernel, rfl⟩, by decide⟩
theorem eX1_trailer_48 : D1 cX1_trailer 48 (.imul) 49 := ⟨by decide +kernel, rfl⟩
theorem eX1_trailer_49 : D1 cX1_trailer 49 (.istore_n 3) 50 := ⟨by decide +kernel, rfl⟩
theorem eX1_trailer_50 : D3 cX1_trailer 50 (.iinc 4 (-1)) 53 := ⟨by decide +kernel, rfl⟩
theorem eX1_trailer_53 : DJ cX1_trailer 53 .goto 41 56 := ⟨-12, by decide +kernel, by decide, rfl⟩
theorem eX1_trailer_56 : DC cX1_trailer 56 (-1) 57 := Or.inl ⟨-1, ⟨by decide +kernel, rfl⟩, by decide⟩
theorem eX1_trailer_57 : D2 cX1_trailer 57 (.istore 4) 59 := ⟨by decide +kernel, rfl⟩
theorem eX1_trailer_59 : D1 cX1_trailer 59 (.iload_n 2) 60 := ⟨by decide +kernel, rfl⟩
theorem eX1_trailer_60 : DC cX1_trailer 60 (1) 61 := Or.inl ⟨1, ⟨by decide +kernel, rfl⟩, by decide⟩
theorem eX1_trailer_61 : D1 cX1_trailer 61 (.iadd) 62 := ⟨by decide +kernel, rfl⟩
theorem eX1_trailer_62 : D2 cX1_trailer 62 (.istore 5) 64 := ⟨by decide +kernel, rfl⟩
theorem eX1_trailer_64 : DC cX1_trailer 64 (0) 65 := Or.inl ⟨0, ⟨by decide +kernel, rfl⟩, by decide⟩
theorem eX1_trailer_65 : D2 cX1_trailer 65 (.istore 6) 67 := ⟨by decide +kernel, rfl⟩
theorem eX1_trailer_67 : D2 cX1_trailer 67 (.iload 6) 69 := ⟨by decide +kernel, rfl⟩
theorem eX1_trailer_69 : D1 cX1_trailer 69 (.iload_n 3) 70 := ⟨by decide +kernel, rfl⟩
theorem eX1_trailer_70 : DJ cX1_trailer 70 (.if_icmp .ge) 106 73 := ⟨36, by decide +kernel, by decide, rfl⟩
theorem eX1_trailer_73 : D1 cX1_trailer 73 (.aload_n 0) 74 := ⟨by decide +kernel, rfl⟩
theorem eX1_trailer_74 : D1 cX1_trailer 74 (.iload_n 1) 75 := ⟨by decide +kernel, rfl⟩
theorem eX1_trailer_75 : D2 cX1_trailer 75 (.iload 6) 77 := ⟨by decide +kernel, rfl⟩
theorem eX1_trailer_77 : D3 cX1_trailer 77 (.invokevirtual 327) 80 := ⟨by decide +kernel, rfl⟩
theorem eX1_trailer_80 : D2 cX1_trailer 80 (.istore 7) 82 := ⟨by decide +kernel, rfl⟩
theorem eX1_trailer_82 : D2 cX1_trailer 82 (.iload 7) 84 := ⟨by decide +kernel, rfl⟩
theorem eX1_trailer_84 : D2 cX1_trailer 84 (.iload 5) 86 := ⟨by decide +kernel, rfl⟩
theorem eX1_trailer_86 : DJ cX1_trailer 86 (.if_icmp .lt) 92 89 := ⟨6, by decide +kernel, by decide, rfl⟩
theorem eX1_trailer_89 : DJ cX1_trailer 89 .goto 100 92 := ⟨11, by decide +kernel, by decide, rfl⟩
theorem eX1_trailer_92 : D2 cX1_trailer 92 (.iload 7) 94 := ⟨by decide +kernel, rfl⟩
theorem eX1_trailer_94 : D2 cX1_trailer 94 (.istore 5) 96 := ⟨by decide +kernel, rfl⟩
theorem eX1_trailer_96 : D2 cX1_trailer 96 (.iload 6) 98 := ⟨by decide +kernel, rfl⟩
theorem eX1_trailer_98 : D2 cX1_trailer 98 (.istore 4) 100 := ⟨by decide +kernel, rfl⟩
theorem eX1_trailer_100 : D3 cX1_trailer 100 (.iinc 6 1) 103 := ⟨by decide +kernel, rfl⟩
theorem eX1_trailer_103 : DJ cX1_trailer 103 .goto 67 106 := ⟨-36, by decide +kernel, by decide, rfl⟩
theorem eX1_trailer_106 : D2 cX1_trailer 106 (.iload 4) 108 := ⟨by decide +kernel, rfl⟩
theorem eX1_trailer_108 : DJ cX1_trailer 108 (.ifCond .ge) 114 111 := ⟨6, by decide +kernel, by decide, rfl⟩
theorem eX1_trailer_111 : DC cX1_trailer 111 (-3) 113 := Or.inr (Or.inl ⟨-3, ⟨by decide +kernel, rfl⟩, by decide⟩)
theorem eX1_trailer_113 : D1 cX1_trailer 113 (.ireturn) 114 := ⟨by decide +kernel, rfl⟩
theorem eX1_trailer_114 : D1 cX1_trailer 114 (.aload_n 0) 115 := ⟨by decide +kernel, rfl⟩
theorem eX1_trailer_115 : D1 cX1_trailer 115 (.iload_n 1) 116 := ⟨by decide +kernel, rfl⟩
theorem eX1_trailer_116 : D2 cX1_trailer 116 (.iload 4) 118 := ⟨by decide +kernel, rfl⟩
theorem eX1_trailer_118 : D3 cX1_trailer 118 (.invokevirtual 327) 121 := ⟨by decide +kernel, rfl⟩
theorem eX1_trailer_121 : D2 cX1_trailer 121 (.istore 6) 123 := ⟨by decide +kernel, rfl⟩
theorem eX1_trailer_123 : DC cX1_trailer 123 (0) 124 := Or.inl ⟨0, ⟨by decide +kernel, rfl⟩, by decide⟩
theorem eX1_trailer_124 : D2 cX1_trailer 124 (.istore 7) 126 := ⟨by decide +kernel, rfl⟩
theorem eX1_trailer_126 : D2 cX1_trailer 126 (.iload 7) 128 := ⟨by decide +kernel, rfl⟩
theorem eX1_trailer_128 : DC cX1_trailer 128 (8) 130 := Or.inr (Or.inl ⟨8, ⟨by decide +kernel, rfl⟩, by decide⟩)
theorem eX1_trailer_130 : DJ cX1_trailer 130 (.if_icmp .ge) 167 133 := ⟨37, by decide +kernel, by decide, rfl⟩
theorem eX1_trailer_133 : D1 cX1_trailer 133 (.aload_n 0) 134 := ⟨by decide +kernel, rfl⟩
theorem eX1_trailer_134 : D3 cX1_trailer 134 (.getfield 127) 137 := ⟨by decide +kernel, rfl⟩
theorem eX1_trailer_137 : D2 cX1_trailer 137 (.iload 7) 139 := ⟨by decide +kernel, rfl⟩
theorem eX1_trailer_139 : D1 cX1_trailer 139 (.iload_n 1) 140 := ⟨by decide +kernel, rfl⟩
theorem eX1_trailer_140 : D2 cX1_trailer 140 (.iload 7) 142 := ⟨by decide +kernel, rfl⟩
theorem eX1_trailer_142 : D1 cX1_trailer 142 (.ishr) 143 := ⟨by decide +kernel, rfl⟩
theorem eX1_trailer_143 : DC cX1_trailer 143 (1) 144 := Or.inl ⟨1, ⟨by decide +kernel, rfl⟩, by decide⟩
theorem eX1_trailer_144 : D1 cX1_trailer 144 (.iand) 145 := ⟨by decide +kernel, rfl⟩
theorem eX1_trailer_145 : DC cX1_trailer 145 (1) 146 := Or.inl ⟨1, ⟨by decide +kernel, rfl⟩, by decide⟩
theorem eX1_trailer_146 : DJ cX1_trailer 146 (.if_icmp .ne) 159 149 := ⟨13, by decide +kernel, by decide, rfl⟩
theorem eX1_trailer_149 : D1 cX1_trailer 149 (.aload_n 0) 150 := ⟨by decide +kernel, rfl⟩
theorem eX1_trailer_150 : D3 cX1_trailer 150 (.getfield 130) 153 := ⟨by decide +kernel, rfl⟩
theorem eX1_trailer_153 : D2 cX1_trailer 153 (.iload 7) 155 := ⟨by decide +kernel, rfl⟩
theorem eX1_trailer_155 : D1 cX1_trailer 155 (.iaload) 156 := ⟨by decide +kernel, rfl⟩
theorem eX1_trailer_156 : DJ cX1_trailer 156 .goto 160 159 := ⟨4, by decide +kernel, by decide, rfl⟩
theorem eX1_trailer_159 : DC cX1_trailer 159 (-1) 160 := Or.inl ⟨-1, ⟨by decide +kernel, rfl⟩, by decide⟩
theorem eX1_trailer_160 : D1 cX1_trailer 160 (.iastore) 161 := ⟨by decide +kernel, rfl⟩
theorem eX1_trailer_161 : D3 cX1_trailer 161 (.iinc 7 1) 164 := ⟨by decide +kernel, rfl⟩
theorem eX1_trailer_164 : DJ cX1_trailer 164 .goto 126 167 := ⟨-38, by decide +kernel, by decide, rfl⟩
theorem eX1_trailer_167 : D2 cX1_trailer 167 (.iload 6) 169 := ⟨by decide +kernel, rfl⟩
theorem eX1_trailer_169 : D1 cX1_trailer 169 (.ireturn) 170 := ⟨by decide +kernel, rfl⟩
theorem eX1_rack_0 : D1 cX1_rack 0 (.aload_n 0) 1 := ⟨by decide +kernel, rfl⟩
theorem eX1_rack_1 : D1 cX1_rack 1 (.iload_n 1) 2 := ⟨by decide +kernel, rfl⟩
theorem eX1_rack_2 : D3 cX1_rack 2 (.invokevirtual 142) 5 := ⟨by decide +kernel, rfl⟩
theorem eX1_rack_5 : DJ cX1_rack 5 (.ifCond .eq) 17 8 := ⟨12, by decide +kernel, by decide, rfl⟩
theorem eX1_rack_8 : D1 cX1_rack 8 (.aload_n 0) 9 := ⟨by decide +kernel, rfl⟩
theorem eX1_rack_9 : D3 cX1_rack 9 (.getfield 127) 12 := ⟨by decide +kernel, rfl⟩
theorem eX1_rack_12 : D1 cX1_rack 12 (.iload_n 1) 13 := ⟨by decide +kernel, rfl⟩
theorem eX1_rack_13 : D1 cX1_rack 13 (.iaload) 14 := ⟨by decide +kernel, rfl⟩
theorem eX1_rack_14 : DJ cX1_rack 14 .goto 18 17 := ⟨4, by decide +kernel, by decide, rfl⟩
theorem eX1_rack_17 : DC cX1_rack 17 (-1) 18 := Or.inl ⟨-1, ⟨by decide +kernel, rfl⟩, by decide⟩
theorem eX1_rack_18 : D1 cX1_rack 18 (.ireturn) 19 := ⟨by decide +kernel, rfl⟩
theorem eX1_count_0 : D1 cX1_count 0 (.iload_n 1) 1 := ⟨by decide +kernel, rfl⟩
theorem eX1_count_1 : decode cX1_count 1 = .ok (.tableswitch 96 0 8 #[51, 56, 61, 66, 71, 76, 81, 86, 91], 51) := by decide +kernel
theorem eX1_count_52 : D1 cX1_count 52 (.aload_n 0) 53 := ⟨by decide +kernel, rfl⟩
theorem eX1_count_53 : D3 cX1_count 53 (.getfield 136) 56 := ⟨by decide +kernel, rfl⟩
theorem eX1_count_56 : D1 cX1_count 56 (.ireturn) 57 := ⟨by decide +kernel, rfl⟩
theorem eX1_count_57 : D1 cX1_count 57 (.aload_n 0) 58 := ⟨by decide +kernel, rfl⟩
theorem eX1_count_58 : D3 cX1_count 58 (.getfield 139) 61 := ⟨by decide +kernel, rfl⟩
theorem eX1_count_61 : D1 cX1_count 61 (.ireturn) 62 := ⟨by decide +kernel, rfl⟩
theorem eX1_count_62 : D1 cX1_count 62 (.aload_n 0) 63 := ⟨by decide +kernel, rfl⟩
theorem eX1_count_63 : D3 cX1_count 63 (.getfield 180) 66 := ⟨by decide +kernel, rfl⟩
theorem eX1_count_66 : D1 cX1_count 66 (.ireturn) 67 := ⟨by decide +kernel, rfl⟩
theorem eX1_count_67 : D1 cX1_count 67 (.aload_n 0) 68 := ⟨by decide +kernel, rfl⟩
theorem eX1_count_68 : D3 cX1_count 68 (.getfield 284) 71 := ⟨by decide +kernel, rfl⟩
theorem eX1_count_71 : D1 cX1_count 71 (.ireturn) 72 := ⟨by decide +kernel, rfl⟩
theorem eX1_count_72 : D1 cX1_count 72 (.aload_n 0) 73 := ⟨by decide +kernel, rfl⟩
theorem eX1_count_73 : D3 cX1_count 73 (.getfield 308) 76 := ⟨by decide +kernel, rfl⟩
theorem eX1_count_76 : D1 cX1_count 76 (.ireturn) 77 := ⟨by decide +kernel, rfl⟩
theorem eX1_count_77 : D1 cX1_count 77 (.aload_n 0) 78 := ⟨by decide +kernel, rfl⟩
theorem eX1_count_78 : D3 cX1_count 78 (.getfield 314) 81 := ⟨by decide +kernel, rfl⟩
theorem eX1_count_81 : D1 cX1_count 81 (.ireturn) 82 := ⟨by decide +kernel, rfl⟩
theorem eX1_count_82 : D1 cX1_count 82 (.aload_n 0) 83 := ⟨by decide +kernel, rfl⟩
theorem eX1_count_83 : D3 cX1_count 83 (.getfield 321) 86 := ⟨by decide +kernel, rfl⟩
theorem eX1_count_86 : D1 cX1_count 86 (.ireturn) 87 := ⟨by decide +kernel, rfl⟩
theorem eX1_count_87 : D1 cX1_count 87 (.aload_n 0) 88 := ⟨by decide +kernel, rfl⟩
theorem eX1_count_88 : D3 cX1_count 88 (.getfield 293) 91 := ⟨by decide +kernel, rfl⟩
theorem eX1_count_91 : D1 cX1_count 91 (.ireturn) 92 := ⟨by decide +kernel, rfl⟩
theorem eX1_count_92 : D1 cX1_count 92 (.aload_n 0) 93 := ⟨by decide +kernel, rfl⟩
theorem eX1_count_93 : D3 cX1_count 93 (.getfield 246) 96 := ⟨by decide +kernel, rfl⟩
theorem eX1_count_96 : D1 cX1_count 96 (.ireturn) 97 := ⟨by decide +kernel, rfl⟩
theorem eX1_count_97 : DC cX1_count 97 (-1) 98 := Or.inl ⟨-1, ⟨by decide +kernel, rfl⟩, by decide⟩
theorem eX1_count_98 : D1 cX1_count 98 (.ireturn) 99 := ⟨by decide +kernel, rfl⟩
def sM_longest_L29 (a1 : Int32) (J7 : Wd → Option (Int32 × Wd)) : Int32 → Int32 → Wd → Option (Int32 × Wd) :=
  fx (fun _ _ _ => none) (fun self20 x17 x18 w19 =>
    if x18 < 0 then (J7 w19) else (if ((a1 >>> (x18 &&& 31)) &&& (1 : Int32)) = 0 then (nm (x18 + (-1 : Int32)) fun x27 => self20 x17 x27 w19) else (rd (inb x18 8) (stG w19 51 (Int32.toNatClampNeg x18) (irm x17 (3 : Int32))) fun w21 => rd (inb (irm x17 (3 : Int32)) 3) (w21.2.1 52 (Int32.toNatClampNeg (irm x17 (3 : Int32)))) fun v22 => rd (inb x18 8) (w21.2.1 9 (Int32.toNatClampNeg x18)) fun v23 => rd (inb (irm x17 (3 : Int32)) 3) (stG w21 52 (Int32.toNatClampNeg (irm x17 (3 : Int32))) (v22 + v23)) fun w24 => nm (x17 / (3 : Int32)) fun x25 => nm (x18 + (-1 : Int32)) fun x26 => self20 x25 x26 w24))) FU
def sM_longest_L5 (J4 : Wd → Option (Int32 × Wd)) : Int32 → Wd → Option (Int32 × Wd) :=
  fx (fun _ _ => none) (fun self30 x28 w29 =>
    if (3 : Int32) ≤ x28 then (J4 w29) else (rd (inb x28 3) (stG w29 52 (Int32.toNatClampNeg x28) (0 : Int32)) fun w31 => nm (x28 + (1 : Int32)) fun x32 => self30 x32 w31)) FU
def sM_longest (w : Wd) (a1 : Int32) (a2 : Int32) : Option (Int32 × Wd) :=
  nm a2 fun x1 => nm (0 : Int32) fun x2 => jn (fun w3 => nm (7 : Int32) fun x5 => jn (fun w6 => rd (inb (0 : Int32) 3) (w6.2.1 52 (Int32.toNatClampNeg (0 : Int32))) fun v8 => rd (inb (1 : Int32) 3) (w6.2.1 52 (Int32.toNatClampNeg (1 : Int32))) fun v9 => jn (fun z10 => nm z10 fun x12 => rd (inb (2 : Int32) 3) (w6.2.1 52 (Int32.toNatClampNeg (2 : Int32))) fun v13 => if x12 ≤ v13 then (rd (inb (2 : Int32) 3) (w6.2.1 52 (Int32.toNatClampNeg (2 : Int32))) fun v14 => some (v14, w6)) else (some (x12, w6))) fun J11 => if v8 ≤ v9 then (rd (inb (1 : Int32) 3) (w6.2.1 52 (Int32.toNatClampNeg (1 : Int32))) fun v15 => J11 v15) else (rd (inb (0 : Int32) 3) (w6.2.1 52 (Int32.toNatClampNeg (0 : Int32))) fun v16 => J11 v16)) fun J7 => sM_longest_L29 a1 J7 x1 x5 w3) fun J4 => sM_longest_L5 J4 x2 w
abbrev rmX1_longest : Room := { frames := 0, cells := 0, slots := 0, locals := 0 }
theorem pkX1_longest : PkV yX1_longest RX1 cX1_longest 5 (some .int) 2 := ⟨q1188, qs55, q58, q1189, by decide +kernel⟩
set_option maxHeartbeats 4000000 in
theorem met_X1_longest (l : Launch) (D : va_G) (g : Nat → ClassId) (ad : Nat → Nat) (w : Wd) (a1 : Int32) (a2 : Int32) (sz : Nat) (r : Int32) (w' : Wd) (ho : sM_longest w a1 a2 = some (r, w')) : Met l yX1_longest (ws_ yX1_longest cX1_longest 5 (some .int)) rmX1_longest (va_Pc [.ref (ad 99), .int a1, .int a2] (MPre D vwCl (tysG g) (cellsM g ad w) NT sz)) (QcI D vwCl (tysG g) (cellsM g ad w') r (va_A (cellsM g ad w) sz)) 0 0 (va_A (cellsM g ad w) sz) := by
  refine met_XJ (cw := cellsM g ad) (w := w) (cc := cX1_longest) (lv := [(0, .ref (ad 99)), (1, .int a1), (2, .int a2)]) pnX1 _ (Nat.le_of_ble_eq_true rfl) rfl ?_
  intro p e s m args below meth c R Q A B hN hr hsz hA hmm hRm hQ hAe
  unfold sM_longest at ho
  refine j_iload_n B eX1_longest_0 2 rfl ?_
  refine j_istore_n (lv' := fun x1 => [(0, .ref (ad 99)), (1, .int a1), (3, .int x1)]) B eX1_longest_1 [1, 2, 0] (by decide) (fun _ => rfl) ho (fun x1 ho => ?_)
  refine j_const B eX1_longest_2 ?_
  refine j_istore (lv' := fun x2 => [(0, .ref (ad 99)), (1, .int a1), (3, .int x1), (4, .int x2)]) B eX1_longest_3 [1, 2, 3, 0] (by decide) (fun _ => rfl) ho (fun x2 ho => ?_)
  refine jn1 (C := fun w3 => XJ p l e R s m args below meth c 0 0 Q A D vwCl (cellsM g ad) 5 w3 25 [(0, .ref (ad 99)), (1, .int a1), (3, .int x1)] []) ho (fun w3 ho => ?_) (fun J4 hJ4 ho => ?_)
  · refine j_const B eX1_longest_25 ?_
    refine j_istore (lv' := fun x5 => [(0, .ref (ad 99)), (1, .int a1), (3, .int x1), (4, .int x5)]) B eX1_longest_27 [1, 2, 3, 0] (by decide) (fun _ => rfl) ho (fun x5 ho => ?_)
    refine jn1 (C := fun w6 => XJ p l e R s m args below meth c 0 0 Q A D vwCl (cellsM g ad) 5 w6 84 [(0, .ref (ad 99))] []) ho (fun w6 ho => ?_) (fun J7 hJ7 ho => ?_)
    · refine j_aload_n B eX1_longest_84 0 rfl ?_
      refine gfM_52 B eX1_longest_85 ?_
      refine j_const B eX1_longest_88 ?_
      refine ldM_52 B eX1_longest_89 ho (fun v8 ho => ?_)
      refine j_aload_n B eX1_longest_90 0 rfl ?_
      refine gfM_52 B eX1_longest_91 ?_
      refine j_const B eX1_longest_94 ?_
      refine ldM_52 B eX1_longest_95 ho (fun v9 ho => ?_)
      refine jn1 (C := fun z10 => XJ p l e R s m args below meth c 0 0 Q A D vwCl (cellsM g ad) 5 w6 114 [(0, .ref (ad 99))] [.int z10]) ho (fun z10 ho => ?_) (fun J11 hJ11 ho => ?_)
      · refine j_istore (lv' := fun x12 => [(0, .ref (ad 99)), (4, .int x12)]) B eX1_longest_114 [1, 0] (by decide) (fun _ => rfl) ho (fun x12 ho => ?_)
        refine j_iload B eX1_longest_116 1 rfl ?_
        refine j_aload_n B eX1_longest_118 0 rfl ?_
        refine gfM_52 B eX1_longest_119 ?_
        refine j_const B eX1_longest_122 ?_
        refine ldM_52 B eX1_longest_123 ho (fun v13 ho => ?_)
        refine j_icmp_le B eX1_longest_124 ho (fun _ ho => ?_) (fun _ ho => ?_)
        · refine j_aload_n B eX1_longest_132 0 rfl ?_
          refine gfM_52 B eX1_longest_133 ?_
          refine j_const B eX1_longest_136 ?_
          refine ldM_52 B eX1_longest_137 ho (fun v14 ho => ?_)
          exact j_iretw B hr hQ eX1_longest_138 ho
        · refine j_iload B eX1_longest_127 1 rfl ?_
          refine j_goto B eX1_longest_129 ?_
          exact j_iretw B hr hQ eX1_longest_138 ho
      · refine j_icmp_le B eX1_longest_96 ho (fun _ ho => ?_) (fun _ ho => ?_)
        · refine j_aload_n B eX1_longest_108 0 rfl ?_
          refine gfM_52 B eX1_longest_109 ?_
          refine j_const B eX1_longest_112 ?_
          refine ldM_52 B eX1_longest_113 ho (fun v15 ho => ?_)
          exact hJ11 _ ho
        · refine j_aload_n B eX1_longest_99 0 rfl ?_
          refine gfM_52 B eX1_longest_100 ?_
          refine j_const B eX1_longest_103 ?_
          refine ldM_52 B eX1_longest_104 ho (fun v16 ho => ?_)
          refine j_goto B eX1_longest_105 ?_
          exact hJ11 _ ho
    · unfold sM_longest_L29 at ho
      refine fx3 (C := fun x17 x18 w19 => XJ p l e R s m args below meth c 0 0 Q A D vwCl (cellsM g ad) 5 w19 29 [(0, .ref (ad 99)), (1, .int a1), (3, .int x17), (4, .int x18)] []) (fun self20 hself20 x17 x18 w19 ho => ?_) FU _ _ _ ho
      refine j_iload B eX1_longest_29 3 rfl ?_
      refine j_if_lt B eX1_longest_31 ho (fun _ ho => ?_) (fun _ ho => ?_)
      · refine j_lsub (lv' := [(0, .ref (ad 99))]) [0] rfl ?_
        exact hJ7 _ ho
      · refine j_iload_n B eX1_longest_34 1 rfl ?_
        refine j_iload B eX1_longest_35 3 rfl ?_
        refine j_ishr B eX1_longest_37 ?_
        refine j_const B eX1_longest_38 ?_
        refine j_iand B eX1_longest_39 ?_
        refine j_if_ne B eX1_longest_40 ho (fun _ ho => ?_) (fun _ ho => ?_)
        · refine j_aload_n B eX1_longest_46 0 rfl ?_
          refine gfM_51 B eX1_longest_47 ?_
          refine j_iload B eX1_longest_50 3 rfl ?_
          refine j_iload_n B eX1_longest_52 2 rfl ?_
          refine j_const B eX1_longest_53 ?_
          refine j_irm B eX1_longest_54 (by decide) ?_
          refine stM_51 B eX1_longest_55 ho (fun w21 ho => ?_)
          refine j_aload_n B eX1_longest_56 0 rfl ?_
          refine gfM_52 B eX1_longest_57 ?_
          refine j_iload_n B eX1_longest_60 2 rfl ?_
          refine j_const B eX1_longest_61 ?_
          refine j_irm B eX1_longest_62 (by decide) ?_
          refine j_dup2 B eX1_longest_63 rfl rfl ?_
          refine ldM_52 B eX1_longest_64 ho (fun v22 ho => ?_)
          refine j_aload_n B eX1_longest_65 0 rfl ?_
          refine gfM_9 B eX1_longest_66 ?_
          refine j_iload B eX1_longest_69 3 rfl ?_
          refine ldM_9 B eX1_longest_71 ho (fun v23 ho => ?_)
          refine j_iadd B eX1_longest_72 ?_
          refine stM_52 B eX1_longest_73 ho (fun w24 ho => ?_)
          refine j_iload_n B eX1_longest_74 2 rfl ?_
          refine j_const B eX1_longest_75 ?_
          refine j_idiv B eX1_longest_76 (by decide) ?_
          refine j_istore_n (lv' := fun x25 => [(0, .ref (ad 99)), (1, .int a1), (3, .int x25), (4, .int x18)]) B eX1_longest_77 [1, 2, 0, 3] (by decide) (fun _ => rfl) ho (fun x25 ho => ?_)
          refine j_iinc (d := -1) (lv' := fun x26 => [(0, .ref (ad 99)), (1, .int a1), (3, .int x25), (4, .int x26)]) B eX1_longest_78 3 rfl (by decide) [1, 2, 3, 0] (by decide) (fun _ => rfl) ho (fun x26 ho => ?_)
          refine j_goto B eX1_longest_81 ?_
          exact hself20 _ _ _ ho
        · refine j_goto B eX1_longest_43 ?_
          refine j_iinc (d := -1) (lv' := fun x27 => [(0, .ref (ad 99)), (1, .int a1), (3, .int x17), (4, .int x27)]) B eX1_longest_78 3 rfl (by decide) [1, 2, 3, 0] (by decide) (fun _ => rfl) ho (fun x27 ho => ?_)
          refine j_goto B eX1_longest_81 ?_
          exact hself20 _ _ _ ho
  · unfold sM_longest_L5 at ho
    refine fx2 (C := fun x28 w29 => XJ p l e R s m args below meth c 0 0 Q A D vwCl (cellsM g ad) 5 w29 5 [(0, .ref (ad 99)), (1, .int a1), (3, .int x1), (4, .int x28)] []) (fun self30 hself30 x28 w29 ho => ?_) FU _ _ ho
    refine j_iload B eX1_longest_5 3 rfl ?_
    refine j_const B eX1_longest_7 ?_
    refine j_icmp_ge B eX1_longest_8 ho (fun _ ho => ?_) (fun _ ho => ?_)
    · refine j_lsub (lv' := [(0, .ref (ad 99)), (1, .int a1), (3, .int x1)]) [0, 1, 2] rfl ?_
      exact hJ4 _ ho
    · refine j_aload_n B eX1_longest_11 0 rfl ?_
      refine gfM_52 B eX1_longest_12 ?_
      refine j_iload B eX1_longest_15 3 rfl ?_
      refine j_const B eX1_longest_17 ?_
      refine stM_52 B eX1_longest_18 ho (fun w31 ho => ?_)
      refine j_iinc (d := 1) (lv' := fun x32 => [(0, .ref (ad 99)), (1, .int a1), (3, .int x1), (4, .int x32)]) B eX1_longest_19 3 rfl (by decide) [1, 2, 3, 0] (by decide) (fun _ => rfl) ho (fun x32 ho => ?_)
      refine j_goto B eX1_longest_22 ?_
      exact hself30 _ _ ho
def sM_trailer_L126 (a1 : Int32) (x16 : Int32) : Int32 → Wd → Option (Int32 × Wd) :=
  fx (fun _ _ => none) (fun self20 x18 w19 =>
    if (8 : Int32) ≤ x18 then (some (x16, w19)) else (jn (fun z21 => rd (inb x18 8) (stG w19 50 (Int32.toNatClampNeg x18) z21) fun w23 => nm (x18 + (1 : Int32)) fun x24 => self20 x24 w23) fun J22 => if ((a1 >>> (x18 &&& 31)) &&& (1 : Int32)) = (1 : Int32) then (rd (inb x18 8) (w19.2.1 51 (Int32.toNatClampNeg x18)) fun v25 => J22 v25) else (J22 (-1 : Int32)))) FU
def sM_trailer_L67 (a1 : Int32) (x6 : Int32) (J13 : Int32 → Wd → Option (Int32 × Wd)) : Int32 → Int32 → Int32 → Wd → Option (Int32 × Wd) :=
  fx (fun _ _ _ _ => none) (fun self30 x26 x27 x28 w29 =>
    if x6 ≤ x28 then (J13 x26 w29) else (bd2 (sM_longest w29 a1 x28) fun v31 w32 => nm v31 fun x33 => if x33 < x27 then (nm x33 fun x34 => nm x28 fun x35 => nm (x28 + (1 : Int32)) fun x36 => self30 x35 x34 x36 w32) else (nm (x28 + (1 : Int32)) fun x37 => self30 x26 x27 x37 w32))) FU
def sM_trailer_L41 (J7 : Int32 → Option (Int32 × Wd)) : Int32 → Int32 → Option (Int32 × Wd) :=
  fx (fun _ _ => none) (fun self40 x38 x39 =>
    if x39 ≤ 0 then (J7 x38) else (nm (x38 * (3 : Int32)) fun x41 => nm (x39 + (-1 : Int32)) fun x42 => self40 x41 x42)) FU
def sM_trailer (w : Wd) (a1 : Int32) (a2 : Int32) : Option (Int32 × Wd) :=
  bd (sM_isIn (Int32.toInt64 a1) (0 : Int64) (Int32.toInt64 (((1 : Int32) <<< ((w.2.1 90 11) &&& 31)) - (1 : Int32)))) fun v1 => if v1 = 0 then (some ((-2 : Int32), w)) else (bd (sM_isIn (Int32.toInt64 a2) (1 : Int64) (999 : Int64)) fun v2 => if v2 = 0 then (some ((-2 : Int32), w)) else (nm (1 : Int32) fun x3 => bd (sM_bits a1) fun v4 => nm v4 fun x5 => jn (fun x6 => nm (-1 : Int32) fun x8 => nm (a2 + (1 : Int32)) fun x9 => nm (0 : Int32) fun x10 => jn (fun x11 w12 => if 0 ≤ x11 then (bd2 (sM_longest w12 a1 x11) fun v14 w15 => nm v14 fun x16 => nm (0 : Int32) fun x17 => sM_trailer_L126 a1 x16 x17 w15) else (some ((-3 : Int32), w12))) fun J13 => sM_trailer_L67 a1 x6 J13 x8 x9 x10 w) fun J7 => sM_trailer_L41 J7 x3 x5))
abbrev rmX1_trailer : Room := { frames := 1, cells := 0, slots := 0, locals := 25 }
theorem pkX1_trailer : PkV yX1_trailer RX1 cX1_trailer 8 (some .int) 2 := ⟨q1183, q1184, q58, q1185, by decide +kernel⟩
set_option maxHeartbeats 4000000 in
theorem met_X1_trailer (l : Launch) (D : va_G) (g : Nat → ClassId) (ad : Nat → Nat) (w : Wd) (a1 : Int32) (a2 : Int32) (sz : Nat) (r : Int32) (w' : Wd) (ho : sM_trailer w a1 a2 = some (r, w')) : Met l yX1_trailer (ws_ yX1_trailer cX1_trailer 8 (some .int)) rmX1_trailer (va_Pc [.ref (ad 99), .int a1, .int a2] (MPre D vwCl (tysG g) (cellsM g ad w) NT sz)) (QcI D vwCl (tysG g) (cellsM g ad w') r (va_A (cellsM g ad w) sz)) 0 0 (va_A (cellsM g ad w) sz) := by
  refine met_XJ (cw := cellsM g ad) (w := w) (cc := cX1_trailer) (lv := [(0, .ref (ad 99)), (1, .int a1), (2, .int a2)]) pnX1 _ (Nat.le_of_ble_eq_true rfl) rfl ?_
  intro p e s m args below meth c R Q A B hN hr hsz hA hmm hRm hQ hAe
  unfold sM_trailer at ho
  refine j_iload_n B eX1_trailer_0 1 rfl ?_
  refine j_i2l B eX1_trailer_1 ?_
  refine j_lconst (v := 0) B eX1_trailer_2 rfl ?_
  refine j_const B eX1_trailer_3 ?_
  refine j_aload_n B eX1_trailer_4 0 rfl ?_
  refine gfM_11 B eX1_trailer_5 ?_
  refine j_ishl B eX1_trailer_8 ?_
  refine j_const B eX1_trailer_9 ?_
  refine j_isub B eX1_trailer_10 ?_
  refine j_i2l B eX1_trailer_11 ?_
  refine j_callSi (As := [.long (Int32.toInt64 a1), .long (0 : Int64), .long (Int32.toInt64 (((1 : Int32) <<< ((w.2.1 90 11) &&& 31)) - (1 : Int32)))]) B hA (met_X1_isIn l D _ _ _ (Int32.toInt64 a1) (0 : Int64) (Int32.toInt64 (((1 : Int32) <<< ((w.2.1 90 11) &&& 31)) - (1 : Int32)))) NT_ok pkX1_isIn q925 rfl rfl hRm ⟨Nat.le_of_ble_eq_true rfl, Nat.le_of_ble_eq_true rfl⟩ rfl rfl (Nat.le_of_ble_eq_true rfl) ⟨Nat.zero_le _, Nat.zero_le _⟩ eX1_trailer_12 ho (fun v1 ho => ?_)
  refine j_if_eq B eX1_trailer_15 ho (fun _ ho => ?_) (fun _ ho => ?_)
  · refine j_const B eX1_trailer_30 ?_
    exact j_iretw B hr hQ eX1_trailer_32 ho
  · refine j_iload_n B eX1_trailer_18 2 rfl ?_
    refine j_i2l B eX1_trailer_19 ?_
    refine j_lconst (v := 1) B eX1_trailer_20 rfl ?_
    refine j_ldc2 B eX1_trailer_21 q980 ?_
    refine j_callSi (As := [.long (Int32.toInt64 a2), .long (1 : Int64), .long (999 : Int64)]) B hA (met_X1_isIn l D _ _ _ (Int32.toInt64 a2) (1 : Int64) (999 : Int64)) NT_ok pkX1_isIn q925 rfl rfl hRm ⟨Nat.le_of_ble_eq_true rfl, Nat.le_of_ble_eq_true rfl⟩ rfl rfl (Nat.le_of_ble_eq_true rfl) ⟨Nat.zero_le _, Nat.zero_le _⟩ eX1_trailer_24 ho (fun v2 ho => ?_)
    refine j_if_ne B eX1_trailer_27 ho (fun _ ho => ?_) (fun _ ho => ?_)
    · refine j_const B eX1_trailer_33 ?_
      refine j_istore_n (lv' := fun x3 => [(0, .ref (ad 99)), (1, .int a1), (2, .int a2), (3, .int x3)]) B eX1_trailer_34 [1, 2, 3, 0] (by decide) (fun _ => rfl) ho (fun x3 ho => ?_)
      refine j_iload_n B eX1_trailer_35 1 rfl ?_
      refine j_callSi (As := [.int a1]) B hA (met_X1_bits l D _ _ _ a1) NT_ok pkX1_bits q1009 rfl rfl hRm ⟨Nat.le_of_ble_eq_true rfl, Nat.le_of_ble_eq_true rfl⟩ rfl rfl (Nat.le_of_ble_eq_true rfl) ⟨Nat.zero_le _, Nat.zero_le _⟩ eX1_trailer_36 ho (fun v4 ho => ?_)
      refine j_istore (lv' := fun x5 => [(0, .ref (ad 99)), (1, .int a1), (2, .int a2), (3, .int x3), (4, .int x5)]) B eX1_trailer_39 [1, 2, 3, 4, 0] (by decide) (fun _ => rfl) ho (fun x5 ho => ?_)
      refine jn1 (C := fun x6 => XJ p l e R s m args below meth c 0 0 Q A D vwCl (cellsM g ad) 8 w 56 [(0, .ref (ad 99)), (1, .int a1), (2, .int a2), (3, .int x6)] []) ho (fun x6 ho => ?_) (fun J7 hJ7 ho => ?_)
      · refine j_const B eX1_trailer_56 ?_
        refine j_istore (lv' := fun x8 => [(0, .ref (ad 99)), (1, .int a1), (2, .int a2), (3, .int x6), (4, .int x8)]) B eX1_trailer_57 [1, 2, 3, 4, 0] (by decide) (fun _ => rfl) ho (fun x8 ho => ?_)
        refine j_iload_n B eX1_trailer_59 2 rfl ?_
        refine j_const B eX1_trailer_60 ?_
        refine j_iadd B eX1_trailer_61 ?_
        refine j_istore (lv' := fun x9 => [(0, .ref (ad 99)), (1, .int a1), (3, .int x6), (4, .int x8), (5, .int x9)]) B eX1_trailer_62 [1, 2, 4, 5, 0] (by decide) (fun _ => rfl) ho (fun x9 ho => ?_)
        refine j_const B eX1_trailer_64 ?_
        refine j_istore (lv' := fun x10 => [(0, .ref (ad 99)), (1, .int a1), (3, .int x6), (4, .int x8), (5, .int x9), (6, .int x10)]) B eX1_trailer_65 [1, 2, 3, 4, 5, 0] (by decide) (fun _ => rfl) ho (fun x10 ho => ?_)
        refine jn2 (C := fun x11 w12 => XJ p l e R s m args below meth c 0 0 Q A D vwCl (cellsM g ad) 8 w12 106 [(0, .ref (ad 99)), (1, .int a1), (4, .int x11)] []) ho (fun x11 w12 ho => ?_) (fun J13 hJ13 ho => ?_)
        · refine j_iload B eX1_trailer_106 2 rfl ?_
          refine j_if_ge B eX1_trailer_108 ho (fun _ ho => ?_) (fun _ ho => ?_)
          · refine j_aload_n B eX1_trailer_114 0 rfl ?_
            refine j_iload_n B eX1_trailer_115 1 rfl ?_
            refine j_iload B eX1_trailer_116 2 rfl ?_
            refine j_callViw (As := [.int a1, .int x11]) B hA (met_X1_longest l D g ad w12 a1 x11) NT_ok pkX1_longest q1186 0 rfl rfl rfl rfl hRm ⟨Nat.le_of_ble_eq_true rfl, Nat.le_of_ble_eq_true rfl⟩ rfl rfl (Nat.le_of_ble_eq_true rfl) ⟨Nat.zero_le _, Nat.zero_le _⟩ eX1_trailer_118 ho (fun v14 w15 ho => ?_)
            refine j_istore (lv' := fun x16 => [(0, .ref (ad 99)), (1, .int a1), (6, .int x16)]) B eX1_trailer_121 [1, 2, 0] (by decide) (fun _ => rfl) ho (fun x16 ho => ?_)
            refine j_const B eX1_trailer_123 ?_
            refine j_istore (lv' := fun x17 => [(0, .ref (ad 99)), (1, .int a1), (6, .int x16), (7, .int x17)]) B eX1_trailer_124 [1, 2, 3, 0] (by decide) (fun _ => rfl) ho (fun x17 ho => ?_)
            unfold sM_trailer_L126 at ho
            refine fx2 (C := fun x18 w19 => XJ p l e R s m args below meth c 0 0 Q A D vwCl (cellsM g ad) 8 w19 126 [(0, .ref (ad 99)), (1, .int a1), (6, .int x16), (7, .int x18)] []) (fun self20 hself20 x18 w19 ho => ?_) FU _ _ ho
            refine j_iload B eX1_trailer_126 3 rfl ?_
            refine j_const B eX1_trailer_128 ?_
            refine j_icmp_ge B eX1_trailer_130 ho (fun _ ho => ?_) (fun _ ho => ?_)
            · refine j_iload B eX1_trailer_167 2 rfl ?_
              exact j_iretw B hr hQ eX1_trailer_169 ho
            · refine j_aload_n B eX1_trailer_133 0 rfl ?_
              refine gfM_50 B eX1_trailer_134 ?_
              refine j_iload B eX1_trailer_137 3 rfl ?_
              refine j_iload_n B eX1_trailer_139 1 rfl ?_
              refine j_iload B eX1_trailer_140 3 rfl ?_
              refine j_ishr B eX1_trailer_142 ?_
              refine j_const B eX1_trailer_143 ?_
              refine j_iand B eX1_trailer_144 ?_
              refine j_const B eX1_trailer_145 ?_
              refine jn1 (C := fun z21 => XJ p l e R s m args below meth c 0 0 Q A D vwCl (cellsM g ad) 8 w19 160 [(0, .ref (ad 99)), (1, .int a1), (6, .int x16), (7, .int x18)] [.int z21, .int x18, .ref (ad 50)]) ho (fun z21 ho => ?_) (fun J22 hJ22 ho => ?_)
              · refine stM_50 B eX1_trailer_160 ho (fun w23 ho => ?_)
                refine j_iinc (d := 1) (lv' := fun x24 => [(0, .ref (ad 99)), (1, .int a1), (6, .int x16), (7, .int x24)]) B eX1_trailer_161 3 rfl (by decide) [1, 2, 3, 0] (by decide) (fun _ => rfl) ho (fun x24 ho => ?_)
                refine j_goto B eX1_trailer_164 ?_
                exact hself20 _ _ ho
              · refine j_icmp_ne B eX1_trailer_146 ho (fun _ ho => ?_) (fun _ ho => ?_)
                · refine j_const B eX1_trailer_159 ?_
                  exact hJ22 _ ho
                · refine j_aload_n B eX1_trailer_149 0 rfl ?_
                  refine gfM_51 B eX1_trailer_150 ?_
                  refine j_iload B eX1_trailer_153 3 rfl ?_
                  refine ldM_51 B eX1_trailer_155 ho (fun v25 ho => ?_)
                  refine j_goto B eX1_trailer_156 ?_
                  exact hJ22 _ ho
          · refine j_const B eX1_trailer_111 ?_
            exact j_iretw B hr hQ eX1_trailer_113 ho
        · unfold sM_trailer_L67 at ho
          refine fx4 (C := fun x26 x27 x28 w29 => XJ p l e R s m args below meth c 0 0 Q A D vwCl (cellsM g ad) 8 w29 67 [(0, .ref (ad 99)), (1, .int a1), (3, .int x6), (4, .int x26), (5, .int x27), (6, .int x28)] []) (fun self30 hself30 x26 x27 x28 w29 ho => ?_) FU _ _ _ _ ho
          refine j_iload B eX1_trailer_67 5 rfl ?_
          refine j_iload_n B eX1_trailer_69 2 rfl ?_
          refine j_icmp_ge B eX1_trailer_70 ho (fun _ ho => ?_) (fun _ ho => ?_)
          · refine j_lsub (lv' := [(0, .ref (ad 99)), (1, .int a1), (4, .int x26)]) [0, 1, 3] rfl ?_
            exact hJ13 _ _ ho
          · refine j_aload_n B eX1_trailer_73 0 rfl ?_
            refine j_iload_n B eX1_trailer_74 1 rfl ?_
            refine j_iload B eX1_trailer_75 5 rfl ?_
            refine j_callViw (As := [.int a1, .int x28]) B hA (met_X1_longest l D g ad w29 a1 x28) NT_ok pkX1_longest q1186 0 rfl rfl rfl rfl hRm ⟨Nat.le_of_ble_eq_true rfl, Nat.le_of_ble_eq_true rfl⟩ rfl rfl (Nat.le_of_ble_eq_true rfl) ⟨Nat.zero_le _, Nat.zero_le _⟩ eX1_trailer_77 ho (fun v31 w32 ho => ?_)
            refine j_istore (lv' := fun x33 => [(0, .ref (ad 99)), (1, .int a1), (3, .int x6), (4, .int x26), (5, .int x27), (6, .int x28), (7, .int x33)]) B eX1_trailer_80 [1, 2, 3, 4, 5, 6, 0] (by decide) (fun _ => rfl) ho (fun x33 ho => ?_)
            refine j_iload B eX1_trailer_82 6 rfl ?_
            refine j_iload B eX1_trailer_84 4 rfl ?_
            refine j_icmp_lt B eX1_trailer_86 ho (fun _ ho => ?_) (fun _ ho => ?_)
            · refine j_iload B eX1_trailer_92 6 rfl ?_
              refine j_istore (lv' := fun x34 => [(0, .ref (ad 99)), (1, .int a1), (3, .int x6), (5, .int x34), (6, .int x28)]) B eX1_trailer_94 [1, 2, 3, 0, 5] (by decide) (fun _ => rfl) ho (fun x34 ho => ?_)
              refine j_iload B eX1_trailer_96 4 rfl ?_
              refine j_istore (lv' := fun x35 => [(0, .ref (ad 99)), (1, .int a1), (3, .int x6), (4, .int x35), (5, .int x34), (6, .int x28)]) B eX1_trailer_98 [1, 2, 3, 0, 4, 5] (by decide) (fun _ => rfl) ho (fun x35 ho => ?_)
              refine j_iinc (d := 1) (lv' := fun x36 => [(0, .ref (ad 99)), (1, .int a1), (3, .int x6), (4, .int x35), (5, .int x34), (6, .int x36)]) B eX1_trailer_100 5 rfl (by decide) [1, 2, 3, 4, 5, 0] (by decide) (fun _ => rfl) ho (fun x36 ho => ?_)
              refine j_goto B eX1_trailer_103 ?_
              exact hself30 _ _ _ _ ho
            · refine j_goto B eX1_trailer_89 ?_
              refine j_iinc (d := 1) (lv' := fun x37 => [(0, .ref (ad 99)), (1, .int a1), (3, .int x6), (4, .int x26), (5, .int x27), (6, .int x37)]) B eX1_trailer_100 5 rfl (by decide) [1, 2, 3, 4, 5, 0] (by decide) (fun _ => rfl) ho (fun x37 ho => ?_)
              refine j_goto B eX1_trailer_103 ?_
              exact hself30 _ _ _ _ ho
      · unfold sM_trailer_L41 at ho
        refine fx2 (C := fun x38 x39 => XJ p l e R s m args below meth c 0 0 Q A D vwCl (cellsM g ad) 8 w 41 [(0, .ref (ad 99)), (1, .int a1), (2, .int a2), (3, .int x38), (4, .int x39)] []) (fun self40 hself40 x38 x39 ho => ?_) FU _ _ ho
        refine j_iload B eX1_trailer_41 4 rfl ?_
        refine j_if_le B eX1_trailer_43 ho (fun _ ho => ?_) (fun _ ho => ?_)
        · refine j_lsub (lv' := [(0, .ref (ad 99)), (1, .int a1), (2, .int a2), (3, .int x38)]) [0, 1, 2, 3] rfl ?_
          exact hJ7 _ ho
        · refine j_iload_n B eX1_trailer_46 3 rfl ?_
          refine j_const B eX1_trailer_47 ?_
          refine j_imul B eX1_trailer_48 ?_
          refine j_istore_n (lv' := fun x41 => [(0, .ref (ad 99)), (1, .int a1), (2, .int a2), (3, .int x41), (4, .int x39)]) B eX1_trailer_49 [1, 2, 3, 0, 4] (by decide) (fun _ => rfl) ho (fun x41 ho => ?_)
          refine j_iinc (d := -1) (lv' := fun x42 => [(0, .ref (ad 99)), (1, .int a1), (2, .int a2), (3, .int x41), (4, .int x42)]) B eX1_trailer_50 4 rfl (by decide) [1, 2, 3, 4, 0] (by decide) (fun _ => rfl) ho (fun x42 ho => ?_)
          refine j_goto B eX1_trailer_53 ?_
          exact hself40 _ _ ho
    · refine j_const B eX1_trailer_30 ?_
      exact j_iretw B hr hQ eX1_trailer_32 ho
def sM_rack (w : Wd) (a1 : Int32) : Option (Int32) :=
  bd (sM_isBoat w a1) fun v1 => if v1 = 0 then (some (-1 : Int32)) else (rd (inb a1 8) (w.2.1 50 (Int32.toNatClampNeg a1)) fun v2 => some v2)
abbrev rmX1_rack : Room := { frames := 1, cells := 0, slots := 0, locals := 21 }
theorem pkX1_rack : PkV yX1_rack RX1 cX1_rack 2 (some .int) 1 := ⟨q1191, q1192, q58, q1193, by decide +kernel⟩
set_option maxHeartbeats 4000000 in
theorem met_X1_rack (l : Launch) (D : va_G) (g : Nat → ClassId) (ad : Nat → Nat) (w : Wd) (a1 : Int32) (sz : Nat) (r : Int32) (ho : sM_rack w a1 = some r) : Met l yX1_rack (ws_ yX1_rack cX1_rack 2 (some .int)) rmX1_rack (va_Pc [.ref (ad 99), .int a1] (MPre D vwCl (tysG g) (cellsM g ad w) NT sz)) (QcI D vwCl (tysG g) (cellsM g ad w) r (va_A (cellsM g ad w) sz)) 0 0 (va_A (cellsM g ad w) sz) := by
  refine met_XJ (cw := cellsM g ad) (w := w) (cc := cX1_rack) (lv := [(0, .ref (ad 99)), (1, .int a1)]) pnX1 _ (Nat.le_of_ble_eq_true rfl) rfl ?_
  intro p e s m args below meth c R Q A B hN hr hsz hA hmm hRm hQ hAe
  unfold sM_rack at ho
  refine j_aload_n B eX1_rack_0 0 rfl ?_
  refine j_iload_n B eX1_rack_1 1 rfl ?_
  refine j_callVi (As := [.int a1]) B hA (met_X1_isBoat l D g ad w a1) NT_ok pkX1_isBoat q951 0 rfl rfl rfl rfl hRm ⟨Nat.le_of_ble_eq_true rfl, Nat.le_of_ble_eq_true rfl⟩ rfl rfl (Nat.le_of_ble_eq_true rfl) ⟨Nat.zero_le _, Nat.zero_le _⟩ eX1_rack_2 ho (fun v1 ho => ?_)
  refine j_if_eq B eX1_rack_5 ho (fun _ ho => ?_) (fun _ ho => ?_)
  · refine j_const B eX1_rack_17 ?_
    exact j_iret B hr hQ eX1_rack_18 ho
  · refine j_aload_n B eX1_rack_8 0 rfl ?_
    refine gfM_50 B eX1_rack_9 ?_
    refine j_iload_n B eX1_rack_12 1 rfl ?_
    refine ldM_50 B eX1_rack_13 ho (fun v2 ho => ?_)
    refine j_goto B eX1_rack_14 ?_
    exact j_iret B hr hQ eX1_rack_18 ho
def sM_count (w : Wd) (a1 : Int32) : Option (Int32) :=
  if a1 = (0 : Int32) then (some (w.2.1 90 10)) else (if a1 = (1 : Int32) then (some (w.2.1 90 11)) else (if a1 = (2 : Int32) then (some (w.2.1 90 16)) else (if a1 = (3 : Int32) then (some (w.2.1 90 30)) else (if a1 = (4 : Int32) then (some (w.2.1 90 44)) else (if a1 = (5 : Int32) then (some (w.2.1 90 45)) else (if a1 = (6 : Int32) then (some (w.2.1 90 48)) else (if a1 = (7 : Int32) then (some (w.2.1 90 31)) else (if a1 = (8 : Int32) then (some (w.2.1 90 29)) else (some (-1 : Int32))))))))))
abbrev rmX1_count : Room := { frames := 0, cells := 0, slots := 0, locals := 0 }
theorem pkX1_count : PkV yX1_count RX1 cX1_count 2 (some .int) 1 := ⟨q1195, q1196, q58, q1197, by decide +kernel⟩
set_option maxHeartbeats 4000000 in
theorem met_X1_count (l : Launch) (D : va_G) (g : Nat → ClassId) (ad : Nat → Nat) (w : Wd) (a1 : Int32) (sz : Nat) (r : Int32) (ho : sM_count w a1 = some r) : Met l yX1_count (ws_ yX1_count cX1_count 2 (some .int)) rmX1_count (va_Pc [.ref (ad 99), .int a1] (MPre D vwCl (tysG g) (cellsM g ad w) NT sz)) (QcI D vwCl (tysG g) (cellsM g ad w) r (va_A (cellsM g ad w) sz)) 0 0 (va_A (cellsM g ad w) sz) := by
  refine met_XJ (cw := cellsM g ad) (w := w) (cc := cX1_count) (lv := [(0, .ref (ad 99)), (1, .int a1)]) pnX1 _ (Nat.le_of_ble_eq_true rfl) rfl ?_
  intro p e s m args below meth c R Q A B hN hr hsz hA hmm hRm hQ hAe
  unfold sM_count at ho
  refine j_iload_n B eX1_count_0 1 rfl ?_
  rcases sw_e ho with ⟨hs0, ho⟩ | ⟨hs0, ho⟩
  · refine j_tswIn (tgt := 52) B eX1_count_1 0 hs0 (by decide) (by decide) rfl (by decide) ?_
    refine j_aload_n B eX1_count_52 0 rfl ?_
    refine gfM_10 B eX1_count_53 ?_
    exact j_iret B hr hQ eX1_count_56 ho
  · rcases sw_e ho with ⟨hs1, ho⟩ | ⟨hs1, ho⟩
    · refine j_tswIn (tgt := 57) B eX1_count_1 1 hs1 (by decide) (by decide) rfl (by decide) ?_
      refine j_aload_n B eX1_count_57 0 rfl ?_
      refine gfM_11 B eX1_count_58 ?_
      exact j_iret B hr hQ eX1_count_61 ho
    · rcases sw_e ho with ⟨hs2, ho⟩ | ⟨hs2, ho⟩
      · refine j_tswIn (tgt := 62) B eX1_count_1 2 hs2 (by decide) (by decide) rfl (by decide) ?_
        refine j_aload_n B eX1_count_62 0 rfl ?_
        refine gfM_16 B eX1_count_63 ?_
        exact j_iret B hr hQ eX1_count_66 ho
      · rcases sw_e ho with ⟨hs3, ho⟩ | ⟨hs3, ho⟩
        · refine j_tswIn (tgt := 67) B eX1_count_1 3 hs3 (by decide) (by decide) rfl (by decide) ?_
          refine j_aload_n B eX1_count_67 0 rfl ?_
          refine gfM_30 B eX1_count_68 ?_
          exact j_iret B hr hQ eX1_count_71 ho
        · rcases sw_e ho with ⟨hs4, ho⟩ | ⟨hs4, ho⟩
          · refine j_tswIn (tgt := 72) B eX1_count_1 4 hs4 (by decide) (by decide) rfl (by decide) ?_
            refine j_aload_n B eX1_count_72 0 rfl ?_
            refine gfM_44 B eX1_count_73 ?_
            exact j_iret B hr hQ eX1_count_76 ho
          · rcases sw_e ho with ⟨hs5, ho⟩ | ⟨hs5, ho⟩
            · refine j_tswIn (tgt := 77) B eX1_count_1 5 hs5 (by decide) (by decide) rfl (by decide) ?_
              refine j_aload_n B eX1_count_77 0 rfl ?_
              refine gfM_45 B eX1_count_78 ?_
              exact j_iret B hr hQ eX1_count_81 ho
            · rcases sw_e ho with ⟨hs6, ho⟩ | ⟨hs6, ho⟩
              · refine j_tswIn (tgt := 82) B eX1_count_1 6 hs6 (by decide) (by decide) rfl (by decide) ?_
                refine j_aload_n B eX1_count_82 0 rfl ?_
                refine gfM_48 B eX1_count_83 ?_
                exact j_iret B hr hQ eX1_count_86 ho
              · rcases sw_e ho with ⟨hs7, ho⟩ | ⟨hs7, ho⟩
                · refine j_tswIn (tgt := 87) B eX1_count_1 7 hs7 (by decide) (by decide) rfl (by decide) ?_
                  refine j_aload_n B eX1_count_87 0 rfl ?_
                  refine gfM_31 B eX1_count_88 ?_
                  exact j_iret B hr hQ eX1_count_91 ho
                · rcases sw_e ho with ⟨hs8, ho⟩ | ⟨hs8, ho⟩
                  · refine j_tswIn (tgt := 92) B eX1_count_1 8 hs8 (by decide) (by decide) rfl (by decide) ?_
                    refine j_aload_n B eX1_count_92 0 rfl ?_
                    refine gfM_29 B eX1_count_93 ?_
                    exact j_iret B hr hQ eX1_count_96 ho
                  · refine j_tswOut (tgt := 97) B eX1_count_1 (by have a0 := lv_neT hs0 (a := 0) (by decide); have a1 := lv_neT hs1 (a := 1) (by decide); have a2 := lv_neT hs2 (a := 2) (by decide); have a3 := lv_neT hs3 (a := 3) (by decide); have a4 := lv_neT hs4 (a := 4) (by decide); have a5 := lv_neT hs5 (a := 5) (by decide); have a6 := lv_neT hs6 (a := 6) (by decide); have a7 := lv_neT hs7 (a := 7) (by decide); have a8 := lv_neT hs8 (a := 8) (by decide); omega) (by decide) ?_
                    refine j_const B eX1_count_97 ?_
                    exact j_iret B hr hQ eX1_count_98 ho
