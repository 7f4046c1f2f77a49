set_option maxRecDepth 100000
theorem eX1_dislikes_0 : D1 cX1_dislikes 0 (.aload_n 0) 1 := ⟨by decide +kernel, rfl⟩
theorem eX1_dislikes_1 : D3 cX1_dislikes 1 (.getfield 29) 4 := ⟨by decide +kernel, rfl⟩
theorem eX1_dislikes_4 : D1 cX1_dislikes 4 (.iload_n 2) 5 := ⟨by decide +kernel, rfl⟩
theorem eX1_dislikes_5 : D1 cX1_dislikes 5 (.iaload) 6 := ⟨by decide +kernel, rfl⟩
theorem eX1_dislikes_6 : DC cX1_dislikes 6 (2) 7 := Or.inl ⟨2, ⟨by decide +kernel, rfl⟩, by decide⟩
theorem eX1_dislikes_7 : DJ cX1_dislikes 7 (.if_icmp .le) 14 10 := ⟨7, by decide +kernel, by decide, rfl⟩
theorem eX1_dislikes_10 : DC cX1_dislikes 10 (2) 11 := Or.inl ⟨2, ⟨by decide +kernel, rfl⟩, by decide⟩
theorem eX1_dislikes_11 : DJ cX1_dislikes 11 .goto 17 14 := ⟨6, by decide +kernel, by decide, rfl⟩
theorem eX1_dislikes_14 : D1 cX1_dislikes 14 (.iload_n 3) 15 := ⟨by decide +kernel, rfl⟩
theorem eX1_dislikes_15 : DC cX1_dislikes 15 (2) 16 := Or.inl ⟨2, ⟨by decide +kernel, rfl⟩, by decide⟩
theorem eX1_dislikes_16 : D1 cX1_dislikes 16 (.irem) 17 := ⟨by decide +kernel, rfl⟩
theorem eX1_dislikes_17 : D2 cX1_dislikes 17 (.istore 4) 19 := ⟨by decide +kernel, rfl⟩
theorem eX1_dislikes_19 : D1 cX1_dislikes 19 (.aload_n 0) 20 := ⟨by decide +kernel, rfl⟩
theorem eX1_dislikes_20 : D3 cX1_dislikes 20 (.getfield 7) 23 := ⟨by decide +kernel, rfl⟩
theorem eX1_dislikes_23 : D1 cX1_dislikes 23 (.iload_n 1) 24 := ⟨by decide +kernel, rfl⟩
theorem eX1_dislikes_24 : D1 cX1_dislikes 24 (.iaload) 25 := ⟨by decide +kernel, rfl⟩
theorem eX1_dislikes_25 : D2 cX1_dislikes 25 (.istore 5) 27 := ⟨by decide +kernel, rfl⟩
theorem eX1_dislikes_27 : D2 cX1_dislikes 27 (.iload 5) 29 := ⟨by decide +kernel, rfl⟩
theorem eX1_dislikes_29 : DC cX1_dislikes 29 (2) 30 := Or.inl ⟨2, ⟨by decide +kernel, rfl⟩, by decide⟩
theorem eX1_dislikes_30 : DJ cX1_dislikes 30 (.if_icmp .ge) 56 33 := ⟨26, by decide +kernel, by decide, rfl⟩
theorem eX1_dislikes_33 : D2 cX1_dislikes 33 (.iload 4) 35 := ⟨by decide +kernel, rfl⟩
theorem eX1_dislikes_35 : DC cX1_dislikes 35 (2) 36 := Or.inl ⟨2, ⟨by decide +kernel, rfl⟩, by decide⟩
theorem eX1_dislikes_36 : DJ cX1_dislikes 36 (.if_icmp .ne) 43 39 := ⟨7, by decide +kernel, by decide, rfl⟩
theorem eX1_dislikes_39 : DC cX1_dislikes 39 (3) 40 := Or.inl ⟨3, ⟨by decide +kernel, rfl⟩, by decide⟩
theorem eX1_dislikes_40 : DJ cX1_dislikes 40 .goto 55 43 := ⟨15, by decide +kernel, by decide, rfl⟩
theorem eX1_dislikes_43 : D2 cX1_dislikes 43 (.iload 4) 45 := ⟨by decide +kernel, rfl⟩
theorem eX1_dislikes_45 : D2 cX1_dislikes 45 (.iload 5) 47 := ⟨by decide +kernel, rfl⟩
theorem eX1_dislikes_47 : DJ cX1_dislikes 47 (.if_icmp .ne) 54 50 := ⟨7, by decide +kernel, by decide, rfl⟩
theorem eX1_dislikes_50 : DC cX1_dislikes 50 (0) 51 := Or.inl ⟨0, ⟨by decide +kernel, rfl⟩, by decide⟩
theorem eX1_dislikes_51 : DJ cX1_dislikes 51 .goto 55 54 := ⟨4, by decide +kernel, by decide, rfl⟩
theorem eX1_dislikes_54 : DC cX1_dislikes 54 (2) 55 := Or.inl ⟨2, ⟨by decide +kernel, rfl⟩, by decide⟩
theorem eX1_dislikes_55 : D1 cX1_dislikes 55 (.ireturn) 56 := ⟨by decide +kernel, rfl⟩
theorem eX1_dislikes_56 : D2 cX1_dislikes 56 (.iload 5) 58 := ⟨by decide +kernel, rfl⟩
theorem eX1_dislikes_58 : DC cX1_dislikes 58 (3) 59 := Or.inl ⟨3, ⟨by decide +kernel, rfl⟩, by decide⟩
theorem eX1_dislikes_59 : DJ cX1_dislikes 59 (.if_icmp .ne) 76 62 := ⟨17, by decide +kernel, by decide, rfl⟩
theorem eX1_dislikes_62 : D2 cX1_dislikes 62 (.iload 4) 64 := ⟨by decide +kernel, rfl⟩
theorem eX1_dislikes_64 : DC cX1_dislikes 64 (2) 65 := Or.inl ⟨2, ⟨by decide +kernel, rfl⟩, by decide⟩
theorem eX1_dislikes_65 : DJ cX1_dislikes 65 (.if_icmp .ne) 72 68 := ⟨7, by decide +kernel, by decide, rfl⟩
theorem eX1_dislikes_68 : DC cX1_dislikes 68 (0) 69 := Or.inl ⟨0, ⟨by decide +kernel, rfl⟩, by decide⟩
theorem eX1_dislikes_69 : DJ cX1_dislikes 69 .goto 87 72 := ⟨18, by decide +kernel, by decide, rfl⟩
theorem eX1_dislikes_72 : DC cX1_dislikes 72 (2) 73 := Or.inl ⟨2, ⟨by decide +kernel, rfl⟩, by decide⟩
theorem eX1_dislikes_73 : DJ cX1_dislikes 73 .goto 87 76 := ⟨14, by decide +kernel, by decide, rfl⟩
theorem eX1_dislikes_76 : D2 cX1_dislikes 76 (.iload 4) 78 := ⟨by decide +kernel, rfl⟩
theorem eX1_dislikes_78 : DC cX1_dislikes 78 (2) 79 := Or.inl ⟨2, ⟨by decide +kernel, rfl⟩, by decide⟩
theorem eX1_dislikes_79 : DJ cX1_dislikes 79 (.if_icmp .ne) 86 82 := ⟨7, by decide +kernel, by decide, rfl⟩
theorem eX1_dislikes_82 : DC cX1_dislikes 82 (1) 83 := Or.inl ⟨1, ⟨by decide +kernel, rfl⟩, by decide⟩
theorem eX1_dislikes_83 : DJ cX1_dislikes 83 .goto 87 86 := ⟨4, by decide +kernel, by decide, rfl⟩
theorem eX1_dislikes_86 : DC cX1_dislikes 86 (0) 87 := Or.inl ⟨0, ⟨by decide +kernel, rfl⟩, by decide⟩
theorem eX1_dislikes_87 : D1 cX1_dislikes 87 (.ireturn) 88 := ⟨by decide +kernel, rfl⟩
theorem eX1_costOf_0 : D1 cX1_costOf 0 (.aload_n 0) 1 := ⟨by decide +kernel, rfl⟩
theorem eX1_costOf_1 : D3 cX1_costOf 1 (.getfield 16) 4 := ⟨by decide +kernel, rfl⟩
theorem eX1_costOf_4 : D1 cX1_costOf 4 (.iload_n 1) 5 := ⟨by decide +kernel, rfl⟩
theorem eX1_costOf_5 : D1 cX1_costOf 5 (.iaload) 6 := ⟨by decide +kernel, rfl⟩
theorem eX1_costOf_6 : D1 cX1_costOf 6 (.iload_n 2) 7 := ⟨by decide +kernel, rfl⟩
theorem eX1_costOf_7 : DJ cX1_costOf 7 (.if_icmp .eq) 14 10 := ⟨7, by decide +kernel, by decide, rfl⟩
theorem eX1_costOf_10 : DC cX1_costOf 10 (5) 11 := Or.inl ⟨5, ⟨by decide +kernel, rfl⟩, by decide⟩
theorem eX1_costOf_11 : DJ cX1_costOf 11 .goto 29 14 := ⟨18, by decide +kernel, by decide, rfl⟩
theorem eX1_costOf_14 : D1 cX1_costOf 14 (.aload_n 0) 15 := ⟨by decide +kernel, rfl⟩
theorem eX1_costOf_15 : D3 cX1_costOf 15 (.getfield 19) 18 := ⟨by decide +kernel, rfl⟩
theorem eX1_costOf_18 : D1 cX1_costOf 18 (.iload_n 1) 19 := ⟨by decide +kernel, rfl⟩
theorem eX1_costOf_19 : D1 cX1_costOf 19 (.iaload) 20 := ⟨by decide +kernel, rfl⟩
theorem eX1_costOf_20 : D1 cX1_costOf 20 (.iload_n 3) 21 := ⟨by decide +kernel, rfl⟩
theorem eX1_costOf_21 : DJ cX1_costOf 21 (.if_icmp .ne) 28 24 := ⟨7, by decide +kernel, by decide, rfl⟩
theorem eX1_costOf_24 : DC cX1_costOf 24 (0) 25 := Or.inl ⟨0, ⟨by decide +kernel, rfl⟩, by decide⟩
theorem eX1_costOf_25 : DJ cX1_costOf 25 .goto 29 28 := ⟨4, by decide +kernel, by decide, rfl⟩
theorem eX1_costOf_28 : DC cX1_costOf 28 (4) 29 := Or.inl ⟨4, ⟨by decide +kernel, rfl⟩, by decide⟩
theorem eX1_costOf_29 : D2 cX1_costOf 29 (.istore 4) 31 := ⟨by decide +kernel, rfl⟩
theorem eX1_costOf_31 : D2 cX1_costOf 31 (.iload 4) 33 := ⟨by decide +kernel, rfl⟩
theorem eX1_costOf_33 : D1 cX1_costOf 33 (.aload_n 0) 34 := ⟨by decide +kernel, rfl⟩
theorem eX1_costOf_34 : D1 cX1_costOf 34 (.iload_n 1) 35 := ⟨by decide +kernel, rfl⟩
theorem eX1_costOf_35 : D1 cX1_costOf 35 (.iload_n 2) 36 := ⟨by decide +kernel, rfl⟩
theorem eX1_costOf_36 : D1 cX1_costOf 36 (.iload_n 3) 37 := ⟨by decide +kernel, rfl⟩
theorem eX1_costOf_37 : D3 cX1_costOf 37 (.invokevirtual 217) 40 := ⟨by decide +kernel, rfl⟩
theorem eX1_costOf_40 : D1 cX1_costOf 40 (.iadd) 41 := ⟨by decide +kernel, rfl⟩
theorem eX1_costOf_41 : D1 cX1_costOf 41 (.ireturn) 42 := ⟨by decide +kernel, rfl⟩
theorem eX1_fillCost_0 : D1 cX1_fillCost 0 (.aload_n 0) 1 := ⟨by decide +kernel, rfl⟩
theorem eX1_fillCost_1 : D1 cX1_fillCost 1 (.iload_n 1) 2 := ⟨by decide +kernel, rfl⟩
theorem eX1_fillCost_2 : D3 cX1_fillCost 2 (.invokevirtual 146) 5 := ⟨by decide +kernel, rfl⟩
theorem eX1_fillCost_5 : D1 cX1_fillCost 5 (.istore_n 3) 6 := ⟨by decide +kernel, rfl⟩
theorem eX1_fillCost_6 : DC cX1_fillCost 6 (1) 7 := Or.inl ⟨1, ⟨by decide +kernel, rfl⟩, by decide⟩
theorem eX1_fillCost_7 : D1 cX1_fillCost 7 (.iload_n 3) 8 := ⟨by decide +kernel, rfl⟩
theorem eX1_fillCost_8 : D1 cX1_fillCost 8 (.ishl) 9 := ⟨by decide +kernel, rfl⟩
theorem eX1_fillCost_9 : DC cX1_fillCost 9 (1) 10 := Or.inl ⟨1, ⟨by decide +kernel, rfl⟩, by decide⟩
theorem eX1_fillCost_10 : D1 cX1_fillCost 10 (.isub) 11 := ⟨by decide +kernel, rfl⟩
theorem eX1_fillCost_11 : D2 cX1_fillCost 11 (.istore 4) 13 := ⟨by decide +kernel, rfl⟩
theorem eX1_fillCost_13 : DC cX1_fillCost 13 (0) 14 := Or.inl ⟨0, ⟨by decide +kernel, rfl⟩, by decide⟩
theorem eX1_fillCost_14 : D2 cX1_fillCost 14 (.istore 5) 16 := ⟨by decide +kernel, rfl⟩
theorem eX1_fillCost_16 : D2 cX1_fillCost 16 (.iload 5) 18 := ⟨by decide +kernel, rfl⟩
theorem eX1_fillCost_18 : D2 cX1_fillCost 18 (.iload 4) 20 := ⟨by decide +kernel, rfl⟩
theorem eX1_fillCost_20 : DJ cX1_fillCost 20 (.if_icmp .gt) 58 23 := ⟨38, by decide +kernel, by decide, rfl⟩
theorem eX1_fillCost_23 : D1 cX1_fillCost 23 (.aload_n 0) 24 := ⟨by decide +kernel, rfl⟩
theorem eX1_fillCost_24 : D3 cX1_fillCost 24 (.getfield 69) 27 := ⟨by decide +kernel, rfl⟩
theorem eX1_fillCost_27 : DC cX1_fillCost 27 (256) 30 := Or.inr (Or.inr ⟨256, ⟨by decide +kernel, rfl⟩, by decide⟩)
theorem eX1_fillCost_30 : D1 cX1_fillCost 30 (.aload_n 0) 31 := ⟨by decide +kernel, rfl⟩
theorem eX1_fillCost_31 : D3 cX1_fillCost 31 (.getfield 136) 34 := ⟨by decide +kernel, rfl⟩
theorem eX1_fillCost_34 : D1 cX1_fillCost 34 (.imul) 35 := ⟨by decide +kernel, rfl⟩
theorem eX1_fillCost_35 : D2 cX1_fillCost 35 (.iload 5) 37 := ⟨by decide +kernel, rfl⟩
theorem eX1_fillCost_37 : D1 cX1_fillCost 37 (.iadd) 38 := ⟨by decide +kernel, rfl⟩
theorem eX1_fillCost_38 : D2 cX1_fillCost 38 (.iload 5) 40 := ⟨by decide +kernel, rfl⟩
theorem eX1_fillCost_40 : D2 cX1_fillCost 40 (.iload 4) 42 := ⟨by decide +kernel, rfl⟩
theorem eX1_fillCost_42 : DJ cX1_fillCost 42 (.if_icmp .ne) 49 45 := ⟨7, by decide +kernel, by decide, rfl⟩
theorem eX1_fillCost_45 : DC cX1_fillCost 45 (0) 46 := Or.inl ⟨0, ⟨by decide +kernel, rfl⟩, by decide⟩
theorem eX1_fillCost_46 : DJ cX1_fillCost 46 .goto 51 49 := ⟨5, by decide +kernel, by decide, rfl⟩
theorem eX1_fillCost_49 : D2 cX1_fillCost 49 (.ldc 224) 51 := ⟨by decide +kernel, rfl⟩
theorem eX1_fillCost_51 : D1 cX1_fillCost 51 (.iastore) 52 := ⟨by decide +kernel, rfl⟩
theorem eX1_fillCost_52 : D3 cX1_fillCost 52 (.iinc 5 1) 55 := ⟨by decide +kernel, rfl⟩
theorem eX1_fillCost_55 : DJ cX1_fillCost 55 .goto 16 58 := ⟨-39, by decide +kernel, by decide, rfl⟩
theorem eX1_fillCost_58 : D1 cX1_fillCost 58 (.aload_n 0) 59 := ⟨by decide +kernel, rfl⟩
theorem eX1_fillCost_59 : D3 cX1_fillCost 59 (.getfield 136) 62 := ⟨by decide +kernel, rfl⟩
theorem eX1_fillCost_62 : DC cX1_fillCost 62 (1) 63 := Or.inl ⟨1, ⟨by decide +kernel, rfl⟩, by decide⟩
theorem eX1_fillCost_63 : D1 cX1_fillCost 63 (.isub) 64 := ⟨by decide +kernel, rfl⟩
theorem eX1_fillCost_64 : D2 cX1_fillCost 64 (.istore 5) 66 := ⟨by decide +kernel, rfl⟩
theorem eX1_fillCost_66 : D2 cX1_fillCost 66 (.iload 5) 68 := ⟨by decide +kernel, rfl⟩
theorem eX1_fillCost_68 : DJ cX1_fillCost 68 (.ifCond .lt) 211 71 := ⟨143, by decide +kernel, by decide, rfl⟩
theorem eX1_fillCost_71 : DC cX1_fillCost 71 (0) 72 := Or.inl ⟨0, ⟨by decide +kernel, rfl⟩, by decide⟩
theorem eX1_fillCost_72 : D2 cX1_fillCost 72 (.istore 6) 74 := ⟨by decide +kernel, rfl⟩
theorem eX1_fillCost_74 : D2 cX1_fillCost 74 (.iload 6) 76 := ⟨by decide +kernel, rfl⟩
theorem eX1_fillCost_76 : D2 cX1_fillCost 76 (.iload 4) 78 := ⟨by decide +kernel, rfl⟩
theorem eX1_fillCost_78 : DJ cX1_fillCost 78 (.if_icmp .gt) 205 81 := ⟨127, by decide +kernel, by decide, rfl⟩
theorem eX1_fillCost_81 : D1 cX1_fillCost 81 (.aload_n 0) 82 := ⟨by decide +kernel, rfl⟩
theorem eX1_fillCost_82 : D3 cX1_fillCost 82 (.getfield 69) 85 := ⟨by decide +kernel, rfl⟩
theorem eX1_fillCost_85 : DC cX1_fillCost 85 (256) 88 := Or.inr (Or.inr ⟨256, ⟨by decide +kernel, rfl⟩, by decide⟩)
theorem eX1_fillCost_88 : D2 cX1_fillCost 88 (.iload 5) 90 := ⟨by decide +kernel, rfl⟩
theorem eX1_fillCost_90 : DC cX1_fillCost 90 (1) 91 := Or.inl ⟨1, ⟨by decide +kernel, rfl⟩, by decide⟩
theorem eX1_fillCost_91 : D1 cX1_fillCost 91 (.iadd) 92 := ⟨by decide +kernel, rfl⟩
theorem eX1_fillCost_92 : D1 cX1_fillCost 92 (.imul) 93 := ⟨by decide +kernel, rfl⟩
theorem eX1_fillCost_93 : D2 cX1_fillCost 93 (.iload 6) 95 := ⟨by decide +kernel, rfl⟩
theorem eX1_fillCost_95 : D1 cX1_fillCost 95 (.iadd) 96 := ⟨by decide +kernel, rfl⟩
theorem eX1_fillCost_96 : D1 cX1_fillCost 96 (.iaload) 97 := ⟨by decide +kernel, rfl⟩
theorem eX1_fillCost_97 : D2 cX1_fillCost 97 (.istore 7) 99 := ⟨by decide +kernel, rfl⟩
theorem eX1_fillCost_99 : DC cX1_fillCost 99 (0) 100 := Or.inl ⟨0, ⟨by decide +kernel, rfl⟩, by decide⟩
theorem eX1_fillCost_100 : D2 cX1_fillCost 100 (.istore 8) 102 := ⟨by decide +kernel, rfl⟩
theorem eX1_fillCost_102 : D2 cX1_fillCost 102 (.iload 8) 104 := ⟨by decide +kernel, rfl⟩
theorem eX1_fillCost_104 : D1 cX1_fillCost 104 (.iload_n 3) 105 := ⟨by decide +kernel, rfl⟩
theorem eX1_fillCost_105 : DJ cX1_fillCost 105 (.if_icmp .ge) 183 108 := ⟨78, by decide +kernel, by decide, rfl⟩
theorem eX1_fillCost_108 : D1 cX1_fillCost 108 (.aload_n 0) 109 := ⟨by decide +kernel, rfl⟩
theorem eX1_fillCost_109 : D2 cX1_fillCost 109 (.iload 5) 111 := ⟨by decide +kernel, rfl⟩
theorem eX1_fillCost_111 : D1 cX1_fillCost 111 (.iload_n 1) 112 := ⟨by decide +kernel, rfl⟩
theorem eX1_fillCost_112 : D1 cX1_fillCost 112 (.iload_n 2) 113 := ⟨by decide +kernel, rfl⟩
theorem eX1_fillCost_113 : D3 cX1_fillCost 113 (.invokevirtual 225) 116 := ⟨by decide +kernel, rfl⟩
theorem eX1_fillCost_116 : DJ cX1_fillCost 116 (.ifCond .eq) 183 119 := ⟨67, by decide +kernel, by decide, rfl⟩
theorem eX1_fillCost_119 : D2 cX1_fillCost 119 (.iload 6) 121 := ⟨by decide +kernel, rfl⟩
theorem eX1_fillCost_121 : D2 cX1_fillCost 121 (.iload 8) 123 := ⟨by decide +kernel, rfl⟩
theorem eX1_fillCost_123 : D1 cX1_fillCost 123 (.ishr) 124 := ⟨by decide +kernel, rfl⟩
theorem eX1_fillCost_124 : DC cX1_fillCost 124 (1) 125 := Or.inl ⟨1, ⟨by decide +kernel, rfl⟩, by decide⟩
theorem eX1_fillCost_125 : D1 cX1_fillCost 125 (.iand) 126 := ⟨by decide +kernel, rfl⟩
theorem eX1_fillCost_126 : DC cX1_fillCost 126 (1) 127 := Or.inl ⟨1, ⟨by decide +kernel, rfl⟩, by decide⟩
theorem eX1_fillCost_127 : DJ cX1_fillCost 127 (.if_icmp .ne) 133 130 := ⟨6, by decide +kernel, by decide, rfl⟩
theorem eX1_fillCost_130 : DJ cX1_fillCost 130 .goto 177 133 := ⟨47, by decide +kernel, by decide, rfl⟩
theorem eX1_fillCost_133 : D1 cX1_fillCost 133 (.aload_n 0) 134 := ⟨by decide +kernel, rfl⟩
theorem eX1_fillCost_134 : D2 cX1_fillCost 134 (.iload 5) 136 := ⟨by decide +kernel, rfl⟩
theorem eX1_fillCost_136 : D1 cX1_fillCost 136 (.iload_n 1) 137 := ⟨by decide +kernel, rfl⟩
theorem eX1_fillCost_137 : D2 cX1_fillCost 137 (.iload 8) 139 := ⟨by decide +kernel, rfl⟩
theorem eX1_fillCost_139 : D3 cX1_fillCost 139 (.invokevirtual 229) 142 := ⟨by decide +kernel, rfl⟩
theorem eX1_fillCost_142 : D1 cX1_fillCost 142 (.aload_n 0) 143 := ⟨by decide +kernel, rfl⟩
theorem eX1_fillCost_143 : D3 cX1_fillCost 143 (.getfield 69) 146 := ⟨by decide +kernel, rfl⟩
theorem eX1_fillCost_146 : DC cX1_fillCost 146 (256) 149 := Or.inr (Or.inr ⟨256, ⟨by decide +kernel, rfl⟩, by decide⟩)
theorem eX1_fillCost_149 : D2 cX1_fillCost 149 (.iload 5) 151 := ⟨by decide +kernel, rfl⟩
theorem eX1_fillCost_151 : DC cX1_fillCost 151 (1) 152 := Or.inl ⟨1, ⟨by decide +kernel, rfl⟩, by decide⟩
theorem eX1_fillCost_152 : D1 cX1_fillCost 152 (.iadd) 153 := ⟨by decide +kernel, rfl⟩
theorem eX1_fillCost_153 : D1 cX1_fillCost 153 (.imul) 154 := ⟨by decide +kernel, rfl⟩
theorem eX1_fillCost_154 : D2 cX1_fillCost 154 (.iload 6) 156 := ⟨by decide +kernel, rfl⟩
theorem eX1_fillCost_156 : DC cX1_fillCost 156 (1) 157 := Or.inl ⟨1, ⟨by decide +kernel, rfl⟩, by decide⟩
theorem eX1_fillCost_157 : D2 cX1_fillCost 157 (.iload 8) 159 := ⟨by decide +kernel, rfl⟩
theorem eX1_fillCost_159 : D1 cX1_fillCost 159 (.ishl) 160 := ⟨by decide +kernel, rfl⟩
theorem eX1_fillCost_160 : D1 cX1_fillCost 160 (.ior) 161 := ⟨by decide +kernel, rfl⟩
theorem eX1_fillCost_161 : D1 cX1_fillCost 161 (.iadd) 162 := ⟨by decide +kernel, rfl⟩
theorem eX1_fillCost_162 : D1 cX1_fillCost 162 (.iaload) 163 := ⟨by decide +kernel, rfl⟩
theorem eX1_fillCost_163 : D1 cX1_fillCost 163 (.iadd) 164 := ⟨by decide +kernel, rfl⟩
theorem eX1_fillCost_164 : D2 cX1_fillCost 164 (.istore 9) 166 := ⟨by decide +kernel, rfl⟩
theorem eX1_fillCost_166 : D2 cX1_fillCost 166 (.iload 9) 168 := ⟨by decide +kernel, rfl⟩
theorem eX1_fillCost_168 : D2 cX1_fillCost 168 (.iload 7) 170 := ⟨by decide +kernel, rfl⟩
theorem eX1_fillCost_170 : DJ cX1_fillCost 170 (.if_icmp .ge) 177 173 := ⟨7, by decide +kernel, by decide, rfl⟩
theorem eX1_fillCost_173 : D2 cX1_fillCost 173 (.iload 9) 175 := ⟨by decide +kernel, rfl⟩
theorem eX1_fillCost_175 : D2 cX1_fillCost 175 (.istore 7) 177 := ⟨by decide +kernel, rfl⟩
theorem eX1_fillCost_177 : D3 cX1_fillCost 177 (.iinc 8 1) 180 := ⟨by decide +kernel, rfl⟩
theorem eX1_fillCost_180 : DJ cX1_fillCost 180 .goto 102 183 := ⟨-78, by decide +kernel, by decide, rfl⟩
theorem eX1_fillCost_183 : D1 cX1_fillCost 183 (.aload_n 0) 184 := ⟨by decide +kernel, rfl⟩
theorem eX1_fillCost_184 : D3 cX1_fillCost 184 (.getfield 69) 187 := ⟨by decide +kernel, rfl⟩
theorem eX1_fillCost_187 : DC cX1_fillCost 187 (256) 190 := Or.inr (Or.inr ⟨256, ⟨by decide +kernel, rfl⟩, by decide⟩)
theorem eX1_fillCost_190 : D2 cX1_fillCost 190 (.iload 5) 192 := ⟨by decide +kernel, rfl⟩
theorem eX1_fillCost_192 : D1 cX1_fillCost 192 (.imul) 193 := ⟨by decide +kernel, rfl⟩
theorem eX1_fillCost_193 : D2 cX1_fillCost 193 (.iload 6) 195 := ⟨by decide +kernel, rfl⟩
theorem eX1_fillCost_195 : D1 cX1_fillCost 195 (.iadd) 196 := ⟨by decide +kernel, rfl⟩
theorem eX1_fillCost_196 : D2 cX1_fillCost 196 (.iload 7) 198 := ⟨by decide +kernel, rfl⟩
theorem eX1_fillCost_198 : D1 cX1_fillCost 198 (.iastore) 199 := ⟨by decide +kernel, rfl⟩
theorem eX1_fillCost_199 : D3 cX1_fillCost 199 (.iinc 6 1) 202 := ⟨by decide +kernel, rfl⟩
theorem eX1_fillCost_202 : DJ cX1_fillCost 202 .goto 74 205 := ⟨-128, by decide +kernel, by decide, rfl⟩
theorem eX1_fillCost_205 : D3 cX1_fillCost 205 (.iinc 5 (-1)) 208 := ⟨by decide +kernel, rfl⟩
theorem eX1_fillCost_208 : DJ cX1_fillCost 208 .goto 66 211 := ⟨-142, by decide +kernel, by decide, rfl⟩
theorem eX1_fillCost_211 : D1 cX1_fillCost 211 (.return_) 212 := ⟨by decide +kernel, rfl⟩
theorem eX1_crew_0 : D1 cX1_crew 0 (.aload_n 0) 1 := ⟨by decide +kernel, rfl⟩
theorem eX1_crew_1 : D1 cX1_crew 1 (.iload_n 1) 2 := ⟨by decide +kernel, rfl⟩
theorem eX1_crew_2 : D3 cX1_crew 2 (.invokevirtual 142) 5 := ⟨by decide +kernel, rfl⟩
theorem eX1_crew_5 : DJ cX1_crew 5 (.ifCond .ne) 10 8 := ⟨5, by decide +kernel, by decide, rfl⟩
theorem eX1_crew_8 : DC cX1_crew 8 (-1) 9 := Or.inl ⟨-1, ⟨by decide +kernel, rfl⟩, by decide⟩
theorem eX1_crew_9 : D1 cX1_crew 9 (.ireturn) 10 := ⟨by decide +kernel, rfl⟩
theorem eX1_crew_10 : D1 cX1_crew 10 (.iload_n 2) 11 := ⟨by decide +kernel, rfl⟩
theorem eX1_crew_11 : D1 cX1_crew 11 (.i2l) 12 := ⟨by decide +kernel, rfl⟩
theorem eX1_crew_12 : D1 cX1_crew 12 (.lconst 0) 13 := ⟨by decide +kernel, rfl⟩
theorem eX1_crew_13 : D3 cX1_crew 13 (.ldc2_w 232) 16 := ⟨by decide +kernel, rfl⟩
theorem eX1_crew_16 : D3 cX1_crew 16 (.invokestatic 155) 19 := ⟨by decide +kernel, rfl⟩
theorem eX1_crew_19 : DJ cX1_crew 19 (.ifCond .eq) 32 22 := ⟨13, by decide +kernel, by decide, rfl⟩
theorem eX1_crew_22 : D1 cX1_crew 22 (.iload_n 3) 23 := ⟨by decide +kernel, rfl⟩
theorem eX1_crew_23 : D1 cX1_crew 23 (.i2l) 24 := ⟨by decide +kernel, rfl⟩
theorem eX1_crew_24 : D1 cX1_crew 24 (.lconst 0) 25 := ⟨by decide +kernel, rfl⟩
theorem eX1_crew_25 : D1 cX1_crew 25 (.lconst 1) 26 := ⟨by decide +kernel, rfl⟩
theorem eX1_crew_26 : D3 cX1_crew 26 (.invokestatic 155) 29 := ⟨by decide +kernel, rfl⟩
theorem eX1_crew_29 : DJ cX1_crew 29 (.ifCond .ne) 35 32 := ⟨6, by decide +kernel, by decide, rfl⟩
theorem eX1_crew_32 : DC cX1_crew 32 (-2) 34 := Or.inr (Or.inl ⟨-2, ⟨by decide +kernel, rfl⟩, by decide⟩)
theorem eX1_crew_34 : D1 cX1_crew 34 (.ireturn) 35 := ⟨by decide +kernel, rfl⟩
theorem eX1_crew_35 : D1 cX1_crew 35 (.aload_n 0) 36 := ⟨by decide +kernel, rfl⟩
theorem eX1_crew_36 : D1 cX1_crew 36 (.iload_n 1) 37 := ⟨by decide +kernel, rfl⟩
theorem eX1_crew_37 : D1 cX1_crew 37 (.iload_n 2) 38 := ⟨by decide +kernel, rfl⟩
theorem eX1_crew_38 : D3 cX1_crew 38 (.invokevirtual 234) 41 := ⟨by decide +kernel, rfl⟩
theorem eX1_crew_41 : D1 cX1_crew 41 (.aload_n 0) 42 := ⟨by decide +kernel, rfl⟩
theorem eX1_crew_42 : D3 cX1_crew 42 (.getfield 69) 45 := ⟨by decide +kernel, rfl⟩
theorem eX1_crew_45 : DC cX1_crew 45 (0) 46 := Or.inl ⟨0, ⟨by decide +kernel, rfl⟩, by decide⟩
theorem eX1_crew_46 : D1 cX1_crew 46 (.iaload) 47 := ⟨by decide +kernel, rfl⟩
theorem eX1_crew_47 : D2 cX1_crew 47 (.istore 4) 49 := ⟨by decide +kernel, rfl⟩
theorem eX1_crew_49 : D2 cX1_crew 49 (.iload 4) 51 := ⟨by decide +kernel, rfl⟩
theorem eX1_crew_51 : D2 cX1_crew 51 (.ldc 224) 53 := ⟨by decide +kernel, rfl⟩
theorem eX1_crew_53 : DJ cX1_crew 53 (.if_icmp .lt) 59 56 := ⟨6, by decide +kernel, by decide, rfl⟩
theorem eX1_crew_56 : DC cX1_crew 56 (-3) 58 := Or.inr (Or.inl ⟨-3, ⟨by decide +kernel, rfl⟩, by decide⟩)
theorem eX1_crew_58 : D1 cX1_crew 58 (.ireturn) 59 := ⟨by decide +kernel, rfl⟩
theorem eX1_crew_59 : D1 cX1_crew 59 (.iload_n 3) 60 := ⟨by decide +kernel, rfl⟩
theorem eX1_crew_60 : DJ cX1_crew 60 (.ifCond .ne) 66 63 := ⟨6, by decide +kernel, by decide, rfl⟩
theorem eX1_crew_63 : D2 cX1_crew 63 (.iload 4) 65 := ⟨by decide +kernel, rfl⟩
theorem eX1_crew_65 : D1 cX1_crew 65 (.ireturn) 66 := ⟨by decide +kernel, rfl⟩
theorem eX1_crew_66 : DC cX1_crew 66 (0) 67 := Or.inl ⟨0, ⟨by decide +kernel, rfl⟩, by decide⟩
theorem eX1_crew_67 : D2 cX1_crew 67 (.istore 5) 69 := ⟨by decide +kernel, rfl⟩
theorem eX1_crew_69 : DC cX1_crew 69 (0) 70 := Or.inl ⟨0, ⟨by decide +kernel, rfl⟩, by decide⟩
theorem eX1_crew_70 : D2 cX1_crew 70 (.istore 6) 72 := ⟨by decide +kernel, rfl⟩
theorem eX1_crew_72 : D2 cX1_crew 72 (.iload 6) 74 := ⟨by decide +kernel, rfl⟩
theorem eX1_crew_74 : D1 cX1_crew 74 (.aload_n 0) 75 := ⟨by decide +kernel, rfl⟩
theorem eX1_crew_75 : D3 cX1_crew 75 (.getfield 136) 78 := ⟨by decide +kernel, rfl⟩
theorem eX1_crew_78 : DJ cX1_crew 78 (.if_icmp .ge) 226 81 := ⟨148, by decide +kernel, by decide, rfl⟩
theorem eX1_crew_81 : D1 cX1_crew 81 (.aload_n 0) 82 := ⟨by decide +kernel, rfl⟩
theorem eX1_crew_82 : D3 cX1_crew 82 (.getfield 72) 85 := ⟨by decide +kernel, rfl⟩
theorem eX1_crew_85 : D2 cX1_crew 85 (.iload 6) 87 := ⟨by decide +kernel, rfl⟩
theorem eX1_crew_87 : DC cX1_crew 87 (-1) 88 := Or.inl ⟨-1, ⟨by decide +kernel, rfl⟩, by decide⟩
theorem eX1_crew_88 : D1 cX1_crew 88 (.iastore) 89 := ⟨by decide +kernel, rfl⟩
theorem eX1_crew_89 : DC cX1_crew 89 (0) 90 := Or.inl ⟨0, ⟨by decide +kernel, rfl⟩, by decide⟩
theorem eX1_crew_90 : D2 cX1_crew 90 (.istore 7) 92 := ⟨by decide +kernel, rfl⟩
theorem eX1_crew_92 : D2 cX1_crew 92 (.iload 7) 94 := ⟨by decide +kernel, rfl⟩
theorem eX1_crew_94 : D1 cX1_crew 94 (.aload_n 0) 95 := ⟨by decide +kernel, rfl⟩
theorem eX1_crew_95 : D1 cX1_crew 95 (.iload_n 1) 96 := ⟨by decide +kernel, rfl⟩
theorem eX1_crew_96 : D3 cX1_crew 96 (.invokevirtual 146) 99 := ⟨by decide +kernel, rfl⟩
theorem eX1_crew_99 : DJ cX1_crew 99 (.if_icmp .ge) 196 102 := ⟨97, by decide +kernel, by decide, rfl⟩
theorem eX1_crew_102 : D1 cX1_crew 102 (.aload_n 0) 103 := ⟨by decide +kernel, rfl⟩
theorem eX1_crew_103 : D3 cX1_crew 103 (.getfield 72) 106 := ⟨by decide +kernel, rfl⟩
theorem eX1_crew_106 : D2 cX1_crew 106 (.iload 6) 108 := ⟨by decide +kernel, rfl⟩
theorem eX1_crew_108 : D1 cX1_crew 108 (.iaload) 109 := ⟨by decide +kernel, rfl⟩
theorem eX1_crew_109 : DJ cX1_crew 109 (.ifCond .ge) 196 112 := ⟨87, by decide +kernel, by decide, rfl⟩
theorem eX1_crew_112 : D1 cX1_crew 112 (.aload_n 0) 113 := ⟨by decide +kernel, rfl⟩
theorem eX1_crew_113 : D2 cX1_crew 113 (.iload 6) 115 := ⟨by decide +kernel, rfl⟩
theorem eX1_crew_115 : D1 cX1_crew 115 (.iload_n 1) 116 := ⟨by decide +kernel, rfl⟩
theorem eX1_crew_116 : D1 cX1_crew 116 (.iload_n 2) 117 := ⟨by decide +kernel, rfl⟩
theorem eX1_crew_117 : D3 cX1_crew 117 (.invokevirtual 225) 120 := ⟨by decide +kernel, rfl⟩
theorem eX1_crew_120 : DJ cX1_crew 120 (.ifCond .eq) 196 123 := ⟨76, by decide +kernel, by decide, rfl⟩
theorem eX1_crew_123 : D2 cX1_crew 123 (.iload 5) 125 := ⟨by decide +kernel, rfl⟩
theorem eX1_crew_125 : D2 cX1_crew 125 (.iload 7) 127 := ⟨by decide +kernel, rfl⟩
theorem eX1_crew_127 : D1 cX1_crew 127 (.ishr) 128 := ⟨by decide +kernel, rfl⟩
theorem eX1_crew_128 : DC cX1_crew 128 (1) 129 := Or.inl ⟨1, ⟨by decide +kernel, rfl⟩, by decide⟩
theorem eX1_crew_129 : D1 cX1_crew 129 (.iand) 130 := ⟨by decide +kernel, rfl⟩
theorem eX1_crew_130 : DJ cX1_crew 130 (.ifCond .ne) 190 133 := ⟨60, by decide +kernel, by decide, rfl⟩
theorem eX1_crew_133 : D1 cX1_crew 133 (.aload_n 0) 134 := ⟨by decide +kernel, rfl⟩
theorem eX1_crew_134 : D2 cX1_crew 134 (.iload 6) 136 := ⟨by decide +kernel, rfl⟩
theorem eX1_crew_136 : D1 cX1_crew 136 (.iload_n 1) 137 := ⟨by decide +kernel, rfl⟩
theorem eX1_crew_137 : D2 cX1_crew 137 (.iload 7) 139 := ⟨by decide +kernel, rfl⟩
theorem eX1_crew_139 : D3 cX1_crew 139 (.invokevirtual 229) 142 := ⟨by decide +kernel, rfl⟩
theorem eX1_crew_142 : D1 cX1_crew 142 (.aload_n 0) 143 := ⟨by decide +kernel, rfl⟩
theorem eX1_crew_143 : D3 cX1_crew 143 (.getfield 69) 146 := ⟨by decide +kernel, rfl⟩
theorem eX1_crew_146 : DC cX1_crew 146 (256) 149 := Or.inr (Or.inr ⟨256, ⟨by decide +kernel, rfl⟩, by decide⟩)
theorem eX1_crew_149 : D2 cX1_crew 149 (.iload 6) 151 := ⟨by decide +kernel, rfl⟩
theorem eX1_crew_151 : DC cX1_crew 151 (1) 152 := Or.inl ⟨1, ⟨by decide +kernel, rfl⟩, by decide⟩
theorem eX1_crew_152 : D1 cX1_crew 152 (.iadd) 153 := ⟨by decide +kernel, rfl⟩
theorem eX1_crew_153 : D1 cX1_crew 153 (.imul) 154 := ⟨by decide +kernel, rfl⟩
theorem eX1_crew_154 : D2 cX1_crew 154 (.iload 5) 156 := ⟨by decide +kernel, rfl⟩
theorem eX1_crew_156 : DC cX1_crew 156 (1) 157 := Or.inl ⟨1, ⟨by decide +kernel, rfl⟩, by decide⟩
theorem eX1_crew_157 : D2 cX1_crew 157 (.iload 7) 159 := ⟨by decide +kernel, rfl⟩
theorem eX1_crew_159 : D1 cX1_crew 159 (.ishl) 160 := ⟨by decide +kernel, rfl⟩
theorem eX1_crew_160 : D1 cX1_crew 160 (.ior) 161 := ⟨by decide +kernel, rfl⟩
theorem eX1_crew_161 : D1 cX1_crew 161 (.iadd) 162 := ⟨by decide +kernel, rfl⟩
theorem eX1_crew_162 : D1 cX1_crew 162 (.iaload) 163 := ⟨by decide +kernel, rfl⟩
theorem eX1_crew_163 : D1 cX1_crew 163 (.iadd) 164 := ⟨by decide +kernel, rfl⟩
theorem eX1_crew_164 : D1 cX1_crew 164 (.aload_n 0) 165 := ⟨by decide +kernel, rfl⟩
theorem eX1_crew_165 : D3 cX1_crew 165 (.getfield 69) 168 := ⟨by decide +kernel, rfl⟩
theorem eX1_crew_168 : DC cX1_crew 168 (256) 171 := Or.inr (Or.inr ⟨256, ⟨by decide +kernel, rfl⟩, by decide⟩)
theorem eX1_crew_171 : D2 cX1_crew 171 (.iload 6) 173 := ⟨by decide +kernel, rfl⟩
theorem eX1_crew_173 : D1 cX1_crew 173 (.imul) 174 := ⟨by decide +kernel, rfl⟩
theorem eX1_crew_174 : D2 cX1_crew 174 (.iload 5) 176 := ⟨by decide +kernel, rfl⟩
theorem eX1_crew_176 : D1 cX1_crew 176 (.iadd) 177 := ⟨by decide +kernel, rfl⟩
theorem eX1_crew_177 : D1 cX1_crew 177 (.iaload) 178 := ⟨by decide +kernel, rfl⟩
theorem eX1_crew_178 : DJ cX1_crew 178 (.if_icmp .ne) 190 181 := ⟨12, by decide +kernel, by decide, rfl⟩
theorem eX1_crew_181 : D1 cX1_crew 181 (.aload_n 0) 182 := ⟨by decide +kernel, rfl⟩
theorem eX1_crew_182 : D3 cX1_crew 182 (.getfield 72) 185 := ⟨by decide +kernel, rfl⟩
theorem eX1_crew_185 : D2 cX1_crew 185 (.iload 6) 187 := ⟨by decide +kernel, rfl⟩
theorem eX1_crew_187 : D2 cX1_crew 187 (.iload 7) 189 := ⟨by decide +kernel, rfl⟩
theorem eX1_crew_189 : D1 cX1_crew 189 (.iastore) 190 := ⟨by decide +kernel, rfl⟩
theorem eX1_crew_190 : D3 cX1_crew 190 (.iinc 7 1) 193 := ⟨by decide +kernel, rfl⟩
theorem eX1_crew_193 : DJ cX1_crew 193 .goto 92 196 := ⟨-101, by decide +kernel, by decide, rfl⟩
theorem eX1_crew_196 : D1 cX1_crew 196 (.aload_n 0) 197 := ⟨by decide +kernel, rfl⟩
theorem eX1_crew_197 : D3 cX1_crew 197 (.getfield 72) 200 := ⟨by decide +kernel, rfl⟩
theorem eX1_crew_200 : D2 cX1_crew 200 (.iload 6) 202 := ⟨by decide +kernel, rfl⟩
theorem eX1_crew_202 : D1 cX1_crew 202 (.iaload) 203 := ⟨by decide +kernel, rfl⟩
theorem eX1_crew_203 : DJ cX1_crew 203 (.ifCond .lt) 220 206 := ⟨17, by decide +kernel, by decide, rfl⟩
theorem eX1_crew_206 : D2 cX1_crew 206 (.iload 5) 208 := ⟨by decide +kernel, rfl⟩
theorem eX1_crew_208 : DC cX1_crew 208 (1) 209 := Or.inl ⟨1, ⟨by decide +kernel, rfl⟩, by decide⟩
theorem eX1_crew_209 : D1 cX1_crew 209 (.aload_n 0) 210 := ⟨by decide +kernel, rfl⟩
theorem eX1_crew_210 : D3 cX1_crew 210 (.getfield 72) 213 := ⟨by decide +kernel, rfl⟩
theorem eX1_crew_213 : D2 cX1_crew 213 (.iload 6) 215 := ⟨by decide +kernel, rfl⟩
theorem eX1_crew_215 : D1 cX1_crew 215 (.iaload) 216 := ⟨by decide +kernel, rfl⟩
theorem eX1_crew_216 : D1 cX1_crew 216 (.ishl) 217 := ⟨by decide +kernel, rfl⟩
theorem eX1_crew_217 : D1 cX1_crew 217 (.ior) 218 := ⟨by decide +kernel, rfl⟩
theorem eX1_crew_218 : D2 cX1_crew 218 (.istore 5) 220 := ⟨by decide +kernel, rfl⟩
theorem eX1_crew_220 : D3 cX1_crew 220 (.iinc 6 1) 223 := ⟨by decide +kernel, rfl⟩
theorem eX1_crew_223 : DJ cX1_crew 223 .goto 72 226 := ⟨-151, by decide +kernel, by decide, rfl⟩
theorem eX1_crew_226 : DC cX1_crew 226 (0) 227 := Or.inl ⟨0, ⟨by decide +kernel, rfl⟩, by decide⟩
theorem eX1_crew_227 : D2 cX1_crew 227 (.istore 6) 229 := ⟨by decide +kernel, rfl⟩
theorem eX1_crew_229 : D2 cX1_crew 229 (.iload 6) 231 := ⟨by decide +kernel, rfl⟩
theorem eX1_crew_231 : D1 cX1_crew 231 (.aload_n 0) 232 := ⟨by decide +kernel, rfl⟩
theorem eX1_crew_232 : D3 cX1_crew 232 (.getfield 136) 235 := ⟨by decide +kernel, rfl⟩
theorem eX1_crew_235 : DJ cX1_crew 235 (.if_icmp .ge) 310 238 := ⟨75, by decide +kernel, by decide, rfl⟩
theorem eX1_crew_238 : D1 cX1_crew 238 (.aload_n 0) 239 := ⟨by decide +kernel, rfl⟩
theorem eX1_crew_239 : D3 cX1_crew 239 (.getfield 16) 242 := ⟨by decide +kernel, rfl⟩
theorem eX1_crew_242 : D2 cX1_crew 242 (.iload 6) 244 := ⟨by decide +kernel, rfl⟩
theorem eX1_crew_244 : D1 cX1_crew 244 (.iaload) 245 := ⟨by decide +kernel, rfl⟩
theorem eX1_crew_245 : D1 cX1_crew 245 (.iload_n 1) 246 := ⟨by decide +kernel, rfl⟩
theorem eX1_crew_246 : DJ cX1_crew 246 (.if_icmp .ne) 269 249 := ⟨23, by decide +kernel, by decide, rfl⟩
theorem eX1_crew_249 : D1 cX1_crew 249 (.aload_n 0) 250 := ⟨by decide +kernel, rfl⟩
theorem eX1_crew_250 : D3 cX1_crew 250 (.getfield 19) 253 := ⟨by decide +kernel, rfl⟩
theorem eX1_crew_253 : D2 cX1_crew 253 (.iload 6) 255 := ⟨by decide +kernel, rfl⟩
theorem eX1_crew_255 : D1 cX1_crew 255 (.iaload) 256 := ⟨by decide +kernel, rfl⟩
theorem eX1_crew_256 : DC cX1_crew 256 (8) 258 := Or.inr (Or.inl ⟨8, ⟨by decide +kernel, rfl⟩, by decide⟩)
theorem eX1_crew_258 : DJ cX1_crew 258 (.if_icmp .eq) 269 261 := ⟨11, by decide +kernel, by decide, rfl⟩
theorem eX1_crew_261 : D1 cX1_crew 261 (.aload_n 0) 262 := ⟨by decide +kernel, rfl⟩
theorem eX1_crew_262 : D3 cX1_crew 262 (.getfield 16) 265 := ⟨by decide +kernel, rfl⟩
theorem eX1_crew_265 : D2 cX1_crew 265 (.iload 6) 267 := ⟨by decide +kernel, rfl⟩
theorem eX1_crew_267 : DC cX1_crew 267 (-1) 268 := Or.inl ⟨-1, ⟨by decide +kernel, rfl⟩, by decide⟩
theorem eX1_crew_268 : D1 cX1_crew 268 (.iastore) 269 := ⟨by decide +kernel, rfl⟩
theorem eX1_crew_269 : D1 cX1_crew 269 (.aload_n 0) 270 := ⟨by decide +kernel, rfl⟩
theorem eX1_crew_270 : D3 cX1_crew 270 (.getfield 72) 273 := ⟨by decide +kernel, rfl⟩
theorem eX1_crew_273 : D2 cX1_crew 273 (.iload 6) 275 := ⟨by decide +kernel, rfl⟩
theorem eX1_crew_275 : D1 cX1_crew 275 (.iaload) 276 := ⟨by decide +kernel, rfl⟩
theorem eX1_crew_276 : DJ cX1_crew 276 (.ifCond .ge) 282 279 := ⟨6, by decide +kernel, by decide, rfl⟩
theorem eX1_crew_279 : DJ cX1_crew 279 .goto 304 282 := ⟨25, by decide +kernel, by decide, rfl⟩
theorem eX1_crew_282 : D1 cX1_crew 282 (.aload_n 0) 283 := ⟨by decide +kernel, rfl⟩
theorem eX1_crew_283 : D3 cX1_crew 283 (.getfield 16) 286 := ⟨by decide +kernel, rfl⟩
theorem eX1_crew_286 : D2 cX1_crew 286 (.iload 6) 288 := ⟨by decide +kernel, rfl⟩
theorem eX1_crew_288 : D1 cX1_crew 288 (.iload_n 1) 289 := ⟨by decide +kernel, rfl⟩
theorem eX1_crew_289 : D1 cX1_crew 289 (.iastore) 290 := ⟨by decide +kernel, rfl⟩
theorem eX1_crew_290 : D1 cX1_crew 290 (.aload_n 0) 291 := ⟨by decide +kernel, rfl⟩
theorem eX1_crew_291 : D3 cX1_crew 291 (.getfield 19) 294 := ⟨by decide +kernel, rfl⟩
theorem eX1_crew_294 : D2 cX1_crew 294 (.iload 6) 296 := ⟨by decide +kernel, rfl⟩
theorem eX1_crew_296 : D1 cX1_crew 296 (.aload_n 0) 297 := ⟨by decide +kernel, rfl⟩
theorem eX1_crew_297 : D3 cX1_crew 297 (.getfield 72) 300 := ⟨by decide +kernel, rfl⟩
theorem eX1_crew_300 : D2 cX1_crew 300 (.iload 6) 302 := ⟨by decide +kernel, rfl⟩
theorem eX1_crew_302 : D1 cX1_crew 302 (.iaload) 303 := ⟨by decide +kernel, rfl⟩
theorem eX1_crew_303 : D1 cX1_crew 303 (.iastore) 304 := ⟨by decide +kernel, rfl⟩
theorem eX1_crew_304 : D3 cX1_crew 304 (.iinc 6 1) 307 := ⟨by decide +kernel, rfl⟩
theorem eX1_crew_307 : DJ cX1_crew 307 .goto 229 310 := ⟨-78, by decide +kernel, by decide, rfl⟩
theorem eX1_crew_310 : D2 cX1_crew 310 (.iload 4) 312 := ⟨by decide +kernel, rfl⟩
theorem eX1_crew_312 : D1 cX1_crew 312 (.ireturn) 313 := ⟨by decide +kernel, rfl⟩
theorem eX1_water_0 : D1 cX1_water 0 (.iload_n 1) 1 := ⟨by decide +kernel, rfl⟩
theorem eX1_water_1 : D1 cX1_water 1 (.i2l) 2 := ⟨by decide +kernel, rfl⟩
theorem eX1_water_2 : D1 cX1_water 2 (.lconst 0) 3 := ⟨by decide +kernel, rfl⟩
theorem eX1_water_3 : D3 cX1_water 3 (.ldc2_w 238) 6 := ⟨by decide +kernel, rfl⟩
theorem eX1_water_6 : D3 cX1_water 6 (.invokestatic 155) 9 := ⟨by decide +kernel, rfl⟩
theorem eX1_water_9 : DJ cX1_water 9 (.ifCond .ne) 14 12 := ⟨5, by decide +kernel, by decide, rfl⟩
theorem eX1_water_12 : DC cX1_water 12 (-1) 13 := Or.inl ⟨-1, ⟨by decide +kernel, rfl⟩, by decide⟩
theorem eX1_water_13 : D1 cX1_water 13 (.ireturn) 14 := ⟨by decide +kernel, rfl⟩
theorem eX1_water_14 : D1 cX1_water 14 (.iload_n 2) 15 := ⟨by decide +kernel, rfl⟩
theorem eX1_water_15 : D1 cX1_water 15 (.i2l) 16 := ⟨by decide +kernel, rfl⟩
theorem eX1_water_16 : D1 cX1_water 16 (.lconst 0) 17 := ⟨by decide +kernel, rfl⟩
theorem eX1_water_17 : D3 cX1_water 17 (.ldc2_w 240) 20 := ⟨by decide +kernel, rfl⟩
theorem eX1_water_20 : D3 cX1_water 20 (.invokestatic 155) 23 := ⟨by decide +kernel, rfl⟩
theorem eX1_water_23 : DJ cX1_water 23 (.ifCond .eq) 38 26 := ⟨15, by decide +kernel, by decide, rfl⟩
theorem eX1_water_26 : D1 cX1_water 26 (.iload_n 3) 27 := ⟨by decide +kernel, rfl⟩
theorem eX1_water_27 : D1 cX1_water 27 (.i2l) 28 := ⟨by decide +kernel, rfl⟩
theorem eX1_water_28 : D1 cX1_water 28 (.lconst 0) 29 := ⟨by decide +kernel, rfl⟩
theorem eX1_water_29 : D3 cX1_water 29 (.ldc2_w 242) 32 := ⟨by decide +kernel, rfl⟩
theorem eX1_water_32 : D3 cX1_water 32 (.invokestatic 155) 35 := ⟨by decide +kernel, rfl⟩
theorem eX1_water_35 : DJ cX1_water 35 (.ifCond .ne) 41 38 := ⟨6, by decide +kernel, by decide, rfl⟩
theorem eX1_water_38 : DC cX1_water 38 (-2) 40 := Or.inr (Or.inl ⟨-2, ⟨by decide +kernel, rfl⟩, by decide⟩)
theorem eX1_water_40 : D1 cX1_water 40 (.ireturn) 41 := ⟨by decide +kernel, rfl⟩
theorem eX1_water_41 : D1 cX1_water 41 (.aload_n 0) 42 := ⟨by decide +kernel, rfl⟩
theorem eX1_water_42 : D3 cX1_water 42 (.getfield 75) 45 := ⟨by decide +kernel, rfl⟩
theorem eX1_water_45 : D1 cX1_water 45 (.iload_n 1) 46 := ⟨by decide +kernel, rfl⟩
theorem eX1_water_46 : D1 cX1_water 46 (.iload_n 2) 47 := ⟨by decide +kernel, rfl⟩
theorem eX1_water_47 : D1 cX1_water 47 (.iastore) 48 := ⟨by decide +kernel, rfl⟩
theorem eX1_water_48 : D1 cX1_water 48 (.aload_n 0) 49 := ⟨by decide +kernel, rfl⟩
theorem eX1_water_49 : D3 cX1_water 49 (.getfield 78) 52 := ⟨by decide +kernel, rfl⟩
theorem eX1_water_52 : D1 cX1_water 52 (.iload_n 1) 53 := ⟨by decide +kernel, rfl⟩
theorem eX1_water_53 : D1 cX1_water 53 (.iload_n 3) 54 := ⟨by decide +kernel, rfl⟩
theorem eX1_water_54 : D1 cX1_water 54 (.iastore) 55 := ⟨by decide +kernel, rfl⟩
theorem eX1_water_55 : DC cX1_water 55 (0) 56 := Or.inl ⟨0, ⟨by decide +kernel, rfl⟩, by decide⟩
theorem eX1_water_56 : D1 cX1_water 56 (.ireturn) 57 := ⟨by decide +kernel, rfl⟩
theorem eX1_feed_0 : D1 cX1_feed 0 (.iload_n 3) 1 := ⟨by decide +kernel, rfl⟩
theorem eX1_feed_1 : D1 cX1_feed 1 (.i2l) 2 := ⟨by decide +kernel, rfl⟩
theorem eX1_feed_2 : D1 cX1_feed 2 (.lconst 1) 3 := ⟨by decide +kernel, rfl⟩
theorem eX1_feed_3 : D3 cX1_feed 3 (.ldc2_w 244) 6 := ⟨by decide +kernel, rfl⟩
theorem eX1_feed_6 : D3 cX1_feed 6 (.invokestatic 155) 9 := ⟨by decide +kernel, rfl⟩
theorem eX1_feed_9 : DJ cX1_feed 9 (.ifCond .ne) 15 12 := ⟨6, by decide +kernel, by decide, rfl⟩
theorem eX1_feed_12 : DC cX1_feed 12 (-2) 14 := Or.inr (Or.inl ⟨-2, ⟨by decide +kernel, rfl⟩, by decide⟩)
theorem eX1_feed_14 : D1 cX1_feed 14 (.ireturn) 15 := ⟨by decide +kernel, rfl⟩
theorem eX1_feed_15 : D1 cX1_feed 15 (.aload_n 0) 16 := ⟨by decide +kernel, rfl⟩
theorem eX1_feed_16 : D3 cX1_feed 16 (.getfield 246) 19 := ⟨by decide +kernel, rfl⟩
theorem eX1_feed_19 : D1 cX1_feed 19 (.iload_n 3) 20 := ⟨by decide +kernel, rfl⟩
theorem eX1_feed_20 : D1 cX1_feed 20 (.iadd) 21 := ⟨by decide +kernel, rfl⟩
theorem eX1_feed_21 : DC cX1_feed 21 (120) 23 := Or.inr (Or.inl ⟨120, ⟨by decide +kernel, rfl⟩, by decide⟩)
theorem eX1_feed_23 : DJ cX1_feed 23 (.if_icmp .le) 29 26 := ⟨6, by decide +kernel, by decide, rfl⟩
theorem eX1_feed_26 : DC cX1_feed 26 (-4) 28 := Or.inr (Or.inl ⟨-4, ⟨by decide +kernel, rfl⟩, by decide⟩)
theorem eX1_feed_28 : D1 cX1_feed 28 (.ireturn) 29 := ⟨by decide +kernel, rfl⟩
theorem eX1_feed_29 : D1 cX1_feed 29 (.iload_n 3) 30 := ⟨by decide +kernel, rfl⟩
theorem eX1_feed_30 : DC cX1_feed 30 (1) 31 := Or.inl ⟨1, ⟨by decide +kernel, rfl⟩, by decide⟩
theorem eX1_feed_31 : D1 cX1_feed 31 (.isub) 32 := ⟨by decide +kernel, rfl⟩
theorem eX1_feed_32 : D2 cX1_feed 32 (.istore 4) 34 := ⟨by decide +kernel, rfl⟩
theorem eX1_feed_34 : D2 cX1_feed 34 (.iload 4) 36 := ⟨by decide +kernel, rfl⟩
theorem eX1_feed_36 : DJ cX1_feed 36 (.ifCond .lt) 76 39 := ⟨40, by decide +kernel, by decide, rfl⟩
theorem eX1_feed_39 : D1 cX1_feed 39 (.aload_n 0) 40 := ⟨by decide +kernel, rfl⟩
theorem eX1_feed_40 : D3 cX1_feed 40 (.getfield 81) 43 := ⟨by decide +kernel, rfl⟩
theorem eX1_feed_43 : D1 cX1_feed 43 (.aload_n 0) 44 := ⟨by decide +kernel, rfl⟩
theorem eX1_feed_44 : D3 cX1_feed 44 (.getfield 246) 47 := ⟨by decide +kernel, rfl⟩
theorem eX1_feed_47 : D1 cX1_feed 47 (.lload_n 1) 48 := ⟨by decide +kernel, rfl⟩
theorem eX1_feed_48 : DC cX1_feed 48 (8) 50 := Or.inr (Or.inl ⟨8, ⟨by decide +kernel, rfl⟩, by decide⟩)
theorem eX1_feed_50 : D2 cX1_feed 50 (.iload 4) 52 := ⟨by decide +kernel, rfl⟩
theorem eX1_feed_52 : D1 cX1_feed 52 (.imul) 53 := ⟨by decide +kernel, rfl⟩
theorem eX1_feed_53 : D1 cX1_feed 53 (.lshr) 54 := ⟨by decide +kernel, rfl⟩
theorem eX1_feed_54 : D3 cX1_feed 54 (.ldc2_w 249) 57 := ⟨by decide +kernel, rfl⟩
theorem eX1_feed_57 : D1 cX1_feed 57 (.land) 58 := ⟨by decide +kernel, rfl⟩
theorem eX1_feed_58 : D1 cX1_feed 58 (.l2i) 59 := ⟨by decide +kernel, rfl⟩
theorem eX1_feed_59 : D1 cX1_feed 59 (.iastore) 60 := ⟨by decide +kernel, rfl⟩
theorem eX1_feed_60 : D1 cX1_feed 60 (.aload_n 0) 61 := ⟨by decide +kernel, rfl⟩
theorem eX1_feed_61 : D1 cX1_feed 61 (.dup) 62 := ⟨by decide +kernel, rfl⟩
theorem eX1_feed_62 : D3 cX1_feed 62 (.getfield 246) 65 := ⟨by decide +kernel, rfl⟩
theorem eX1_feed_65 : DC cX1_feed 65 (1) 66 := Or.inl ⟨1, ⟨by decide +kernel, rfl⟩, by decide⟩
theorem eX1_feed_66 : D1 cX1_feed 66 (.iadd) 67 := ⟨by decide +kernel, rfl⟩
theorem eX1_feed_67 : D3 cX1_feed 67 (.putfield 246) 70 := ⟨by decide +kernel, rfl⟩
theorem eX1_feed_70 : D3 cX1_feed 70 (.iinc 4 (-1)) 73 := ⟨by decide +kernel, rfl⟩
theorem eX1_feed_73 : DJ cX1_feed 73 .goto 34 76 := ⟨-39, by decide +kernel, by decide, rfl⟩
theorem eX1_feed_76 : D1 cX1_feed 76 (.aload_n 0) 77 := ⟨by decide +kernel, rfl⟩
theorem eX1_feed_77 : D3 cX1_feed 77 (.getfield 246) 80 := ⟨by decide +kernel, rfl⟩
theorem eX1_feed_80 : D1 cX1_feed 80 (.ireturn) 81 := ⟨by decide +kernel, rfl⟩
theorem eX1_spelled_0 : D1 cX1_spelled 0 (.lconst 0) 1 := ⟨by decide +kernel, rfl⟩
theorem eX1_spelled_1 : D2 cX1_spelled 1 (.lstore 6) 3 := ⟨by decide +kernel, rfl⟩
theorem eX1_spelled_3 : D1 cX1_spelled 3 (.iload_n 0) 4 := ⟨by decide +kernel, rfl⟩
theorem eX1_spelled_4 : DJ cX1_spelled 4 (.ifCond .le) 17 7 := ⟨13, by decide +kernel, by decide, rfl⟩
theorem eX1_spelled_7 : D2 cX1_spelled 7 (.lload 6) 9 := ⟨by decide +kernel, rfl⟩
theorem eX1_spelled_9 : DC cX1_spelled 9 (5) 10 := Or.inl ⟨5, ⟨by decide +kernel, rfl⟩, by decide⟩
theorem eX1_spelled_10 : D1 cX1_spelled 10 (.lshl) 11 := ⟨by decide +kernel, rfl⟩
theorem eX1_spelled_11 : D1 cX1_spelled 11 (.iload_n 0) 12 := ⟨by decide +kernel, rfl⟩
theorem eX1_spelled_12 : D1 cX1_spelled 12 (.i2l) 13 := ⟨by decide +kernel, rfl⟩
theorem eX1_spelled_13 : D1 cX1_spelled 13 (.lor) 14 := ⟨by decide +kernel, rfl⟩
theorem eX1_spelled_14 : DJ cX1_spelled 14 .goto 19 17 := ⟨5, by decide +kernel, by decide, rfl⟩
theorem eX1_spelled_17 : D2 cX1_spelled 17 (.lload 6) 19 := ⟨by decide +kernel, rfl⟩
theorem eX1_spelled_19 : D2 cX1_spelled 19 (.lstore 6) 21 := ⟨by decide +kernel, rfl⟩
theorem eX1_spelled_21 : D1 cX1_spelled 21 (.iload_n 1) 22 := ⟨by decide +kernel, rfl⟩
theorem eX1_spelled_22 : DJ cX1_spelled 22 (.ifCond .le) 35 25 := ⟨13, by decide +kernel, by decide, rfl⟩
theorem eX1_spelled_25 : D2 cX1_spelled 25 (.lload 6) 27 := ⟨by decide +kernel, rfl⟩
theorem eX1_spelled_27 : DC cX1_spelled 27 (5) 28 := Or.inl ⟨5, ⟨by decide +kernel, rfl⟩, by decide⟩
theorem eX1_spelled_28 : D1 cX1_spelled 28 (.lshl) 29 := ⟨by decide +kernel, rfl⟩
theorem eX1_spelled_29 : D1 cX1_spelled 29 (.iload_n 1) 30 := ⟨by decide +kernel, rfl⟩
theorem eX1_spelled_30 : D1 cX1_spelled 30 (.i2l) 31 := ⟨by decide +kernel, rfl⟩
theorem eX1_spelled_31 : D1 cX1_spelled 31 (.lor) 32 := ⟨by decide +kernel, rfl⟩
theorem eX1_spelled_32 : DJ cX1_spelled 32 .goto 37 35 := ⟨5, by decide +kernel, by decide, rfl⟩
theorem eX1_spelled_35 : D2 cX1_spelled 35 (.lload 6) 37 := ⟨by decide +kernel, rfl⟩
theorem eX1_spelled_37 : D2 cX1_spelled 37 (.lstore 6) 39 := ⟨by decide +kernel, rfl⟩
theorem eX1_spelled_39 : D1 cX1_spelled 39 (.iload_n 2) 40 := ⟨by decide +kernel, rfl⟩
theorem eX1_spelled_40 : DJ cX1_spelled 40 (.ifCond .le) 53 43 := ⟨13, by decide +kernel, by decide, rfl⟩
theorem eX1_spelled_43 : D2 cX1_spelled 43 (.lload 6) 45 := ⟨by decide +kernel, rfl⟩
theorem eX1_spelled_45 : DC cX1_spelled 45 (5) 46 := Or.inl ⟨5, ⟨by decide +kernel, rfl⟩, by decide⟩
theorem eX1_spelled_46 : D1 cX1_spelled 46 (.lshl) 47 := ⟨by decide +kernel, rfl⟩
theorem eX1_spelled_47 : D1 cX1_spelled 47 (.iload_n 2) 48 := ⟨by decide +kernel, rfl⟩
theorem eX1_spelled_48 : D1 cX1_spelled 48 (.i2l) 49 := ⟨by decide +kernel, rfl⟩
theorem eX1_spelled_49 : D1 cX1_spelled 49 (.lor) 50 := ⟨by decide +kernel, rfl⟩
theorem eX1_spelled_50 : DJ cX1_spelled 50 .goto 55 53 := ⟨5, by decide +kernel, by decide, rfl⟩
theorem eX1_spelled_53 : D2 cX1_spelled 53 (.lload 6) 55 := ⟨by decide +kernel, rfl⟩
theorem eX1_spelled_55 : D2 cX1_spelled 55 (.lstore 6) 57 := ⟨by decide +kernel, rfl⟩
theorem eX1_spelled_57 : D1 cX1_spelled 57 (.iload_n 3) 58 := ⟨by decide +kernel, rfl⟩
theorem eX1_spelled_58 : DJ cX1_spelled 58 (.ifCond .le) 71 61 := ⟨13, by decide +kernel, by decide, rfl⟩
theorem eX1_spelled_61 : D2 cX1_spelled 61 (.lload 6) 63 := ⟨by decide +kernel, rfl⟩
theorem eX1_spelled_63 : DC cX1_spelled 63 (5) 64 := Or.inl ⟨5, ⟨by decide +kernel, rfl⟩, by decide⟩
theorem eX1_spelled_64 : D1 cX1_spelled 64 (.lshl) 65 := ⟨by decide +kernel, rfl⟩
theorem eX1_spelled_65 : D1 cX1_spelled 65 (.iload_n 3) 66 := ⟨by decide +kernel, rfl⟩
theorem eX1_spelled_66 : D1 cX1_spelled 66 (.i2l) 67 := ⟨by decide +kernel, rfl⟩
theorem eX1_spelled_67 : D1 cX1_spelled 67 (.lor) 68 := ⟨by decide +kernel, rfl⟩
theorem eX1_spelled_68 : DJ cX1_spelled 68 .goto 73 71 := ⟨5, by decide +kernel, by decide, rfl⟩
theorem eX1_spelled_71 : D2 cX1_spelled 71 (.lload 6) 73 := ⟨by decide +kernel, rfl⟩
theorem eX1_spelled_73 : D2 cX1_spelled 73 (.lstore 6) 75 := ⟨by decide +kernel, rfl⟩
theorem eX1_spelled_75 : D2 cX1_spelled 75 (.iload 4) 77 := ⟨by decide +kernel, rfl⟩
theorem eX1_spelled_77 : DJ cX1_spelled 77 (.ifCond .le) 91 80 := ⟨14, by decide +kernel, by decide, rfl⟩
theorem eX1_spelled_80 : D2 cX1_spelled 80 (.lload 6) 82 := ⟨by decide +kernel, rfl⟩
theorem eX1_spelled_82 : DC cX1_spelled 82 (5) 83 := Or.inl ⟨5, ⟨by decide +kernel, rfl⟩, by decide⟩
theorem eX1_spelled_83 : D1 cX1_spelled 83 (.lshl) 84 := ⟨by decide +kernel, rfl⟩
theorem eX1_spelled_84 : D2 cX1_spelled 84 (.iload 4) 86 := ⟨by decide +kernel, rfl⟩
theorem eX1_spelled_86 : D1 cX1_spelled 86 (.i2l) 87 := ⟨by decide +kernel, rfl⟩
theorem eX1_spelled_87 : D1 cX1_spelled 87 (.lor) 88 := ⟨by decide +kernel, rfl⟩
theorem eX1_spelled_88 : DJ cX1_spelled 88 .goto 93 91 := ⟨5, by decide +kernel, by decide, rfl⟩
theorem eX1_spelled_91 : D2 cX1_spelled 91 (.lload 6) 93 := ⟨by decide +kernel, rfl⟩
theorem eX1_spelled_93 : D2 cX1_spelled 93 (.lstore 6) 95 := ⟨by decide +kernel, rfl⟩
theorem eX1_spelled_95 : D2 cX1_spelled 95 (.iload 5) 97 := ⟨by decide +kernel, rfl⟩
theorem eX1_spelled_97 : DJ cX1_spelled 97 (.ifCond .le) 111 100 := ⟨14, by decide +kernel, by decide, rfl⟩
theorem eX1_spelled_100 : D2 cX1_spelled 100 (.lload 6) 102 := ⟨by decide +kernel, rfl⟩
theorem eX1_spelled_102 : DC cX1_spelled 102 (5) 103 := Or.inl ⟨5, ⟨by decide +kernel, rfl⟩, by decide⟩
theorem eX1_spelled_103 : D1 cX1_spelled 103 (.lshl) 104 := ⟨by decide +kernel, rfl⟩
theorem eX1_spelled_104 : D2 cX1_spelled 104 (.iload 5) 106 := ⟨by decide +kernel, rfl⟩
theorem eX1_spelled_106 : D1 cX1_spelled 106 (.i2l) 107 := ⟨by decide +kernel, rfl⟩
theorem eX1_spelled_107 : D1 cX1_spelled 107 (.lor) 108 := ⟨by decide +kernel, rfl⟩
theorem eX1_spelled_108 : DJ cX1_spelled 108 .goto 113 111 := ⟨5, by decide +kernel, by decide, rfl⟩
theorem eX1_spelled_111 : D2 cX1_spelled 111 (.lload 6) 113 := ⟨by decide +kernel, rfl⟩
theorem eX1_spelled_113 : D1 cX1_spelled 113 (.lreturn) 114 := ⟨by decide +kernel, rfl⟩
theorem eX1_wordOf_0 : D1 cX1_wordOf 0 (.iload_n 0) 1 := ⟨by decide +kernel, rfl⟩
theorem eX1_wordOf_1 : decode cX1_wordOf 1 = .ok (.tableswitch 265 0 14 #[75, 88, 102, 116, 131, 143, 147, 159, 170, 184, 197, 211, 226, 239, 254], 75) := by decide +kernel
theorem eX1_wordOf_76 : DC cX1_wordOf 76 (16) 78 := Or.inr (Or.inl ⟨16, ⟨by decide +kernel, rfl⟩, by decide⟩)
theorem eX1_wordOf_78 : DC cX1_wordOf 78 (1) 79 := Or.inl ⟨1, ⟨by decide +kernel, rfl⟩, by decide⟩
theorem eX1_wordOf_79 : DC cX1_wordOf 79 (9) 81 := Or.inr (Or.inl ⟨9, ⟨by decide +kernel, rfl⟩, by decide⟩)
theorem eX1_wordOf_81 : DC cX1_wordOf 81 (18) 83 := Or.inr (Or.inl ⟨18, ⟨by decide +kernel, rfl⟩, by decide⟩)
theorem eX1_wordOf_83 : DC cX1_wordOf 83 (0) 84 := Or.inl ⟨0, ⟨by decide +kernel, rfl⟩, by decide⟩
theorem eX1_wordOf_84 : DC cX1_wordOf 84 (0) 85 := Or.inl ⟨0, ⟨by decide +kernel, rfl⟩, by decide⟩
theorem eX1_wordOf_85 : D3 cX1_wordOf 85 (.invokestatic 259) 88 := ⟨by decide +kernel, rfl⟩
theorem eX1_wordOf_88 : D1 cX1_wordOf 88 (.lreturn) 89 := ⟨by decide +kernel, rfl⟩
theorem eX1_wordOf_89 : DC cX1_wordOf 89 (6) 91 := Or.inr (Or.inl ⟨6, ⟨by decide +kernel, rfl⟩, by decide⟩)
theorem eX1_wordOf_91 : DC cX1_wordOf 91 (15) 93 := Or.inr (Or.inl ⟨15, ⟨by decide +kernel, rfl⟩, by decide⟩)
theorem eX1_wordOf_93 : DC cX1_wordOf 93 (21) 95 := Or.inr (Or.inl ⟨21, ⟨by decide +kernel, rfl⟩, by decide⟩)
theorem eX1_wordOf_95 : DC cX1_wordOf 95 (18) 97 := Or.inr (Or.inl ⟨18, ⟨by decide +kernel, rfl⟩, by decide⟩)
theorem eX1_wordOf_97 : DC cX1_wordOf 97 (0) 98 := Or.inl ⟨0, ⟨by decide +kernel, rfl⟩, by decide⟩
theorem eX1_wordOf_98 : DC cX1_wordOf 98 (0) 99 := Or.inl ⟨0, ⟨by decide +kernel, rfl⟩, by decide⟩
theorem eX1_wordOf_99 : D3 cX1_wordOf 99 (.invokestatic 259) 102 := ⟨by decide +kernel, rfl⟩
theorem eX1_wordOf_102 : D1 cX1_wordOf 102 (.lreturn) 103 := ⟨by decide +kernel, rfl⟩
theorem eX1_wordOf_103 : DC cX1_wordOf 103 (5) 104 := Or.inl ⟨5, ⟨by decide +kernel, rfl⟩, by decide⟩
theorem eX1_wordOf_104 : DC cX1_wordOf 104 (9) 106 := Or.inr (Or.inl ⟨9, ⟨by decide +kernel, rfl⟩, by decide⟩)
theorem eX1_wordOf_106 : DC cX1_wordOf 106 (7) 108 := Or.inr (Or.inl ⟨7, ⟨by decide +kernel, rfl⟩, by decide⟩)
theorem eX1_wordOf_108 : DC cX1_wordOf 108 (8) 110 := Or.inr (Or.inl ⟨8, ⟨by decide +kernel, rfl⟩, by decide⟩)
theorem eX1_wordOf_110 : DC cX1_wordOf 110 (20) 112 := Or.inr (Or.inl ⟨20, ⟨by decide +kernel, rfl⟩, by decide⟩)
theorem eX1_wordOf_112 : DC cX1_wordOf 112 (0) 113 := Or.inl ⟨0, ⟨by decide +kernel, rfl⟩, by decide⟩
theorem eX1_wordOf_113 : D3 cX1_wordOf 113 (.invokestatic 259) 116 := ⟨by decide +kernel, rfl⟩
theorem eX1_wordOf_116 : D1 cX1_wordOf 116 (.lreturn) 117 := ⟨by decide +kernel, rfl⟩
theorem eX1_wordOf_117 : DC cX1_wordOf 117 (19) 119 := Or.inr (Or.inl ⟨19, ⟨by decide +kernel, rfl⟩, by decide⟩)
theorem eX1_wordOf_119 : DC cX1_wordOf 119 (9) 121 := Or.inr (Or.inl ⟨9, ⟨by decide +kernel, rfl⟩, by decide⟩)
theorem eX1_wordOf_121 : DC cX1_wordOf 121 (14) 123 := Or.inr (Or.inl ⟨14, ⟨by decide +kernel, rfl⟩, by decide⟩)
theorem eX1_wordOf_123 : DC cX1_wordOf 123 (7) 125 := Or.inr (Or.inl ⟨7, ⟨by decide +kernel, rfl⟩, by decide⟩)
theorem eX1_wordOf_125 : DC cX1_wordOf 125 (12) 127 := Or.inr (Or.inl ⟨12, ⟨by decide +kernel, rfl⟩, by decide⟩)
theorem eX1_wordOf_127 : DC cX1_wordOf 127 (5) 128 := Or.inl ⟨5, ⟨by decide +kernel, rfl⟩, by decide⟩
theorem eX1_wordOf_128 : D3 cX1_wordOf 128 (.invokestatic 259) 131 := ⟨by decide +kernel, rfl⟩
theorem eX1_wordOf_131 : D1 cX1_wordOf 131 (.lreturn) 132 := ⟨by decide +kernel, rfl⟩
theorem eX1_wordOf_132 : DC cX1_wordOf 132 (17) 134 := Or.inr (Or.inl ⟨17, ⟨by decide +kernel, rfl⟩, by decide⟩)
theorem eX1_wordOf_134 : DC cX1_wordOf 134 (21) 136 := Or.inr (Or.inl ⟨21, ⟨by decide +kernel, rfl⟩, by decide⟩)
theorem eX1_wordOf_136 : DC cX1_wordOf 136 (1) 137 := Or.inl ⟨1, ⟨by decide +kernel, rfl⟩, by decide⟩
theorem eX1_wordOf_137 : DC cX1_wordOf 137 (4) 138 := Or.inl ⟨4, ⟨by decide +kernel, rfl⟩, by decide⟩
theorem eX1_wordOf_138 : DC cX1_wordOf 138 (0) 139 := Or.inl ⟨0, ⟨by decide +kernel, rfl⟩, by decide⟩
theorem eX1_wordOf_139 : DC cX1_wordOf 139 (0) 140 := Or.inl ⟨0, ⟨by decide +kernel, rfl⟩, by decide⟩
theorem eX1_wordOf_140 : D3 cX1_wordOf 140 (.invokestatic 259) 143 := ⟨by decide +kernel, rfl⟩
theorem eX1_wordOf_143 : D1 cX1_wordOf 143 (.lreturn) 144 := ⟨by decide +kernel, rfl⟩
theorem eX1_wordOf_144 : D3 cX1_wordOf 144 (.ldc2_w 263) 147 := ⟨by decide +kernel, rfl⟩
theorem eX1_wordOf_147 : D1 cX1_wordOf 147 (.lreturn) 148 := ⟨by decide +kernel, rfl⟩
theorem eX1_wordOf_148 : DC cX1_wordOf 148 (12) 150 := Or.inr (Or.inl ⟨12, ⟨by decide +kernel, rfl⟩, by decide⟩)
theorem eX1_wordOf_150 : DC cX1_wordOf 150 (5) 151 := Or.inl ⟨5, ⟨by decide +kernel, rfl⟩, by decide⟩
theorem eX1_wordOf_151 : DC cX1_wordOf 151 (20) 153 := Or.inr (Or.inl ⟨20, ⟨by decide +kernel, rfl⟩, by decide⟩)
theorem eX1_wordOf_153 : DC cX1_wordOf 153 (0) 154 := Or.inl ⟨0, ⟨by decide +kernel, rfl⟩, by decide⟩
theorem eX1_wordOf_154 : DC cX1_wordOf 154 (0) 155 := Or.inl ⟨0, ⟨by decide +kernel, rfl⟩, by decide⟩
theorem eX1_wordOf_155 : DC cX1_wordOf 155 (0) 156 := Or.inl ⟨0, ⟨by decide +kernel, rfl⟩, by decide⟩
theorem eX1_wordOf_156 : D3 cX1_wordOf 156 (.invokestatic 259) 159 := ⟨by decide +kernel, rfl⟩
theorem eX1_wordOf_159 : D1 cX1_wordOf 159 (.lreturn) 160 := ⟨by decide +kernel, rfl⟩
theorem eX1_wordOf_160 : DC cX1_wordOf 160 (2) 161 := Or.inl ⟨2, ⟨by decide +kernel, rfl⟩, by decide⟩
theorem eX1_wordOf_161 : DC cX1_wordOf 161 (1) 162 := Or.inl ⟨1, ⟨by decide +kernel, rfl⟩, by decide⟩
theorem eX1_wordOf_162 : DC cX1_wordOf 162 (18) 164 := Or.inr (Or.inl ⟨18, ⟨by decide +kernel, rfl⟩, by decide⟩)
theorem eX1_wordOf_164 : DC cX1_wordOf 164 (0) 165 := Or.inl ⟨0, ⟨by decide +kernel, rfl⟩, by decide⟩
theorem eX1_wordOf_165 : DC cX1_wordOf 165 (0) 166 := Or.inl ⟨0, ⟨by decide +kernel, rfl⟩, by decide⟩
theorem eX1_wordOf_166 : DC cX1_wordOf 166 (0) 167 := Or.inl ⟨0, ⟨by decide +kernel, rfl⟩, by decide⟩
theorem eX1_wordOf_167 : D3 cX1_wordOf 167 (.invokestatic 259) 170 := ⟨by decide +kernel, rfl⟩
theorem eX1_wordOf_170 : D1 cX1_wordOf 170 (.lreturn) 171 := ⟨by decide +kernel, rfl⟩
theorem eX1_wordOf_171 : DC cX1_wordOf 171 (19) 173 := Or.inr (Or.inl ⟨19, ⟨by decide +kernel, rfl⟩, by decide⟩)
theorem eX1_wordOf_173 : DC cX1_wordOf 173 (20) 175 := Or.inr (Or.inl ⟨20, ⟨by decide +kernel, rfl⟩, by decide⟩)
theorem eX1_wordOf_175 : DC cX1_wordOf 175 (18) 177 := Or.inr (Or.inl ⟨18, ⟨by decide +kernel, rfl⟩, by decide⟩)
theorem eX1_wordOf_177 : DC cX1_wordOf 177 (5) 178 := Or.inl ⟨5, ⟨by decide +kernel, rfl⟩, by decide⟩
theorem eX1_wordOf_178 : DC cX1_wordOf 178 (1) 179 := Or.inl ⟨1, ⟨by decide +kernel, rfl⟩, by decide⟩
theorem eX1_wordOf_179 : DC cX1_wordOf 179 (13) 181 := Or.inr (Or.inl ⟨13, ⟨by decide +kernel, rfl⟩, by decide⟩)
theorem eX1_wordOf_181 : D3 cX1_wordOf 181 (.invokestatic 259) 184 := ⟨by decide +kernel, rfl⟩
theorem eX1_wordOf_184 : D1 cX1_wordOf 184 (.lreturn) 185 := ⟨by decide +kernel, rfl⟩
theorem eX1_wordOf_185 : DC cX1_wordOf 185 (23) 187 := Or.inr (Or.inl ⟨23, ⟨by decide +kernel, rfl⟩, by decide⟩)
theorem eX1_wordOf_187 : DC cX1_wordOf 187 (9) 189 := Or.inr (Or.inl ⟨9, ⟨by decide +kernel, rfl⟩, by decide⟩)
theorem eX1_wordOf_189 : DC cX1_wordOf 189 (14) 191 := Or.inr (Or.inl ⟨14, ⟨by decide +kernel, rfl⟩, by decide⟩)
theorem eX1_wordOf_191 : DC cX1_wordOf 191 (4) 192 := Or.inl ⟨4, ⟨by decide +kernel, rfl⟩, by decide⟩
theorem eX1_wordOf_192 : DC cX1_wordOf 192 (0) 193 := Or.inl ⟨0, ⟨by decide +kernel, rfl⟩, by decide⟩
theorem eX1_wordOf_193 : DC cX1_wordOf 193 (0) 194 := Or.inl ⟨0, ⟨by decide +kernel, rfl⟩, by decide⟩
theorem eX1_wordOf_194 : D3 cX1_wordOf 194 (.invokestatic 259) 197 := ⟨by decide +kernel, rfl⟩
theorem eX1_wordOf_197 : D1 cX1_wordOf 197 (.lreturn) 198 := ⟨by decide +kernel, rfl⟩
theorem eX1_wordOf_198 : DC cX1_wordOf 198 (8) 200 := Or.inr (Or.inl ⟨8, ⟨by decide +kernel, rfl⟩, by decide⟩)
theorem eX1_wordOf_200 : DC cX1_wordOf 200 (15) 202 := Or.inr (Or.inl ⟨15, ⟨by decide +kernel, rfl⟩, by decide⟩)
theorem eX1_wordOf_202 : DC cX1_wordOf 202 (21) 204 := Or.inr (Or.inl ⟨21, ⟨by decide +kernel, rfl⟩, by decide⟩)
theorem eX1_wordOf_204 : DC cX1_wordOf 204 (18) 206 := Or.inr (Or.inl ⟨18, ⟨by decide +kernel, rfl⟩, by decide⟩)
theorem eX1_wordOf_206 : DC cX1_wordOf 206 (0) 207 := Or.inl ⟨0, ⟨by decide +kernel, rfl⟩, by decide⟩
theorem eX1_wordOf_207 : DC cX1_wordOf 207 (0) 208 := Or.inl ⟨0, ⟨by decide +kernel, rfl⟩, by decide⟩
theorem eX1_wordOf_208 : D3 cX1_wordOf 208 (.invokestatic 259) 211 := ⟨by decide +kernel, rfl⟩
theorem eX1_wordOf_211 : D1 cX1_wordOf 211 (.lreturn) 212 := ⟨by decide +kernel, rfl⟩
theorem eX1_wordOf_212 : DC cX1_wordOf 212 (13) 214 := Or.inr (Or.inl ⟨13, ⟨by decide +kernel, rfl⟩, by decide⟩)
theorem eX1_wordOf_214 : DC cX1_wordOf 214 (15) 216 := Or.inr (Or.inl ⟨15, ⟨by decide +kernel, rfl⟩, by decide⟩)
theorem eX1_wordOf_216 : DC cX1_wordOf 216 (14) 218 := Or.inr (Or.inl ⟨14, ⟨by decide +kernel, rfl⟩, by decide⟩)
theorem eX1_wordOf_218 : DC cX1_wordOf 218 (20) 220 := Or.inr (Or.inl ⟨20, ⟨by decide +kernel, rfl⟩, by decide⟩)
theorem eX1_wordOf_220 : DC cX1_wordOf 220 (8) 222 := Or.inr (Or.inl ⟨8, ⟨by decide +kernel, rfl⟩, by decide⟩)
theorem eX1_wordOf_222 : DC cX1_wordOf 222 (0) 223 := Or.inl ⟨0, ⟨by decide +kernel, rfl⟩, by decide⟩
theorem eX1_wordOf_223 : D3 cX1_wordOf 223 (.invokestatic 259) 226 := ⟨by decide +kernel, rfl⟩
theorem eX1_wordOf_226 : D1 cX1_wordOf 226 (.lreturn) 227 := ⟨by decide +kernel, rfl⟩
theorem eX1_wordOf_227 : DC cX1_wordOf 227 (19) 229 := Or.inr (Or.inl ⟨19, ⟨by decide +kernel, rfl⟩, by decide⟩)
theorem eX1_wordOf_229 : DC cX1_wordOf 229 (9) 231 := Or.inr (Or.inl ⟨9, ⟨by decide +kernel, rfl⟩, by decide⟩)
theorem eX1_wordOf_231 : DC cX1_wordOf 231 (26) 233 := Or.inr (Or.inl ⟨26, ⟨by decide +kernel, rfl⟩, by decide⟩)
theorem eX1_wordOf_233 : DC cX1_wordOf 233 (5) 234 := Or.inl ⟨5, ⟨by decide +kernel, rfl⟩, by decide⟩
theorem eX1_wordOf_234 : DC cX1_wordOf 234 (0) 235 := Or.inl ⟨0, ⟨by decide +kernel, rfl⟩, by decide⟩
theorem eX1_wordOf_235 : DC cX1_wordOf 235 (0) 236 := Or.inl ⟨0, ⟨by decide +kernel, rfl⟩, by decide⟩
theorem eX1_wordOf_236 : D3 cX1_wordOf 236 (.invokestatic 259) 239 := ⟨by decide +kernel, rfl⟩
theorem eX1_wordOf_239 : D1 cX1_wordOf 239 (.lreturn) 240 := ⟨by decide +kernel, rfl⟩
theorem eX1_wordOf_240 : DC cX1_wordOf 240 (25) 242 := Or.inr (Or.inl ⟨25, ⟨by decide +kernel, rfl⟩, by decide⟩)
theorem eX1_wordOf_242 : DC cX1_wordOf 242 (15) 244 := Or.inr (Or.inl ⟨15, ⟨by decide +kernel, rfl⟩, by decide⟩)
theorem eX1_wordOf_244 : DC cX1_wordOf 244 (21) 246 := Or.inr (Or.inl ⟨21, ⟨by decide +kernel, rfl⟩, by decide⟩)
theorem eX1_wordOf_246 : DC cX1_wordOf 246 (14) 248 := Or.inr (Or.inl ⟨14, ⟨by decide +kernel, rfl⟩, by decide⟩)
theorem eX1_wordOf_248 : DC cX1_wordOf 248 (7) 250 := Or.inr (Or.inl ⟨7, ⟨by decide +kernel, rfl⟩, by decide⟩)
theorem eX1_wordOf_250 : DC cX1_wordOf 250 (0) 251 := Or.inl ⟨0, ⟨by decide +kernel, rfl⟩, by decide⟩
theorem eX1_wordOf_251 : D3 cX1_wordOf 251 (.invokestatic 259) 254 := ⟨by decide +kernel, rfl⟩
theorem eX1_wordOf_254 : D1 cX1_wordOf 254 (.lreturn) 255 := ⟨by decide +kernel, rfl⟩
theorem eX1_wordOf_255 : DC cX1_wordOf 255 (9) 257 := Or.inr (Or.inl ⟨9, ⟨by decide +kernel, rfl⟩, by decide⟩)
theorem eX1_wordOf_257 : DC cX1_wordOf 257 (3) 258 := Or.inl ⟨3, ⟨by decide +kernel, rfl⟩, by decide⟩
theorem eX1_wordOf_258 : DC cX1_wordOf 258 (5) 259 := Or.inl ⟨5, ⟨by decide +kernel, rfl⟩, by decide⟩
theorem eX1_wordOf_259 : DC cX1_wordOf 259 (0) 260 := Or.inl ⟨0, ⟨by decide +kernel, rfl⟩, by decide⟩
theorem eX1_wordOf_260 : DC cX1_wordOf 260 (0) 261 := Or.inl ⟨0, ⟨by decide +kernel, rfl⟩, by decide⟩
theorem eX1_wordOf_261 : DC cX1_wordOf 261 (0) 262 := Or.inl ⟨0, ⟨by decide +kernel, rfl⟩, by decide⟩
theorem eX1_wordOf_262 : D3 cX1_wordOf 262 (.invokestatic 259) 265 := ⟨by decide +kernel, rfl⟩
theorem eX1_wordOf_265 : D1 cX1_wordOf 265 (.lreturn) 266 := ⟨by decide +kernel, rfl⟩
theorem eX1_wordOf_266 : DC cX1_wordOf 266 (9) 268 := Or.inr (Or.inl ⟨9, ⟨by decide +kernel, rfl⟩, by decide⟩)
theorem eX1_wordOf_268 : DC cX1_wordOf 268 (6) 270 := Or.inr (Or.inl ⟨6, ⟨by decide +kernel, rfl⟩, by decide⟩)
theorem eX1_wordOf_270 : DC cX1_wordOf 270 (0) 271 := Or.inl ⟨0, ⟨by decide +kernel, rfl⟩, by decide⟩
theorem eX1_wordOf_271 : DC cX1_wordOf 271 (0) 272 := Or.inl ⟨0, ⟨by decide +kernel, rfl⟩, by decide⟩
theorem eX1_wordOf_272 : DC cX1_wordOf 272 (0) 273 := Or.inl ⟨0, ⟨by decide +kernel, rfl⟩, by decide⟩
theorem eX1_wordOf_273 : DC cX1_wordOf 273 (0) 274 := Or.inl ⟨0, ⟨by decide +kernel, rfl⟩, by decide⟩
theorem eX1_wordOf_274 : D3 cX1_wordOf 274 (.invokestatic 259) 277 := ⟨by decide +kernel, rfl⟩
theorem eX1_wordOf_277 : D1 cX1_wordOf 277 (.lreturn) 278 := ⟨by decide +kernel, rfl⟩
def sM_dislikes (w : Wd) (a1 : Int32) (a2 : Int32) (a3 : Int32) : Option (Int32) :=
  rd (inb a2 8) (w.2.1 6 (Int32.toNatClampNeg a2)) fun v1 => jn (fun z2 => nm z2 fun x4 => rd (inb a1 16) (w.2.1 0 (Int32.toNatClampNeg a1)) fun v5 => nm v5 fun x6 => if (2 : Int32) ≤ x6 then (if x6 = (3 : Int32) then (if x4 = (2 : Int32) then (some (0 : Int32)) else (some (2 : Int32))) else (if x4 = (2 : Int32) then (some (1 : Int32)) else (some (0 : Int32)))) else (if x4 = (2 : Int32) then (some (3 : Int32)) else (if x4 = x6 then (some (0 : Int32)) else (some (2 : Int32))))) fun J3 => if v1 ≤ (2 : Int32) then (J3 (irm a3 (2 : Int32))) else (J3 (2 : Int32))
abbrev rmX1_dislikes : Room := { frames := 0, cells := 0, slots := 0, locals := 0 }
theorem pkX1_dislikes : PkV yX1_dislikes RX1 cX1_dislikes 6 (some .int) 3 := ⟨q1055, qs42, q58, q1056, by decide +kernel⟩
set_option maxHeartbeats 4000000 in
theorem met_X1_dislikes (l : Launch) (D : va_G) (g : Nat → ClassId) (ad : Nat → Nat) (w : Wd) (a1 : Int32) (a2 : Int32) (a3 : Int32) (sz : Nat) (r : Int32) (ho : sM_dislikes w a1 a2 a3 = some r) : Met l yX1_dislikes (ws_ yX1_dislikes cX1_dislikes 6 (some .int)) rmX1_dislikes (va_Pc [.ref (ad 99), .int a1, .int a2, .int a3] (MPre D vwCl (tysG g) (cellsM g ad w) NT sz)) (QcI D vwCl (tysG g) (cellsM g ad w) r (va_A (cellsM g ad w) sz)) 0 0 (va_A (cellsM g ad w) sz) := by
  refine met_XJ (cw := cellsM g ad) (w := w) (cc := cX1_dislikes) (lv := [(0, .ref (ad 99)), (1, .int a1), (2, .int a2), (3, .int a3)]) pnX1 _ (Nat.le_of_ble_eq_true rfl) rfl ?_
  intro p e s m args below meth c R Q A B hN hr hsz hA hmm hRm hQ hAe
  unfold sM_dislikes at ho
  refine j_aload_n B eX1_dislikes_0 0 rfl ?_
  refine gfM_6 B eX1_dislikes_1 ?_
  refine j_iload_n B eX1_dislikes_4 2 rfl ?_
  refine ldM_6 B eX1_dislikes_5 ho (fun v1 ho => ?_)
  refine j_const B eX1_dislikes_6 ?_
  refine jn1 (C := fun z2 => XJ p l e R s m args below meth c 0 0 Q A D vwCl (cellsM g ad) 6 w 17 [(0, .ref (ad 99)), (1, .int a1)] [.int z2]) ho (fun z2 ho => ?_) (fun J3 hJ3 ho => ?_)
  · refine j_istore (lv' := fun x4 => [(0, .ref (ad 99)), (1, .int a1), (4, .int x4)]) B eX1_dislikes_17 [1, 2, 0] (by decide) (fun _ => rfl) ho (fun x4 ho => ?_)
    refine j_aload_n B eX1_dislikes_19 0 rfl ?_
    refine gfM_0 B eX1_dislikes_20 ?_
    refine j_iload_n B eX1_dislikes_23 1 rfl ?_
    refine ldM_0 B eX1_dislikes_24 ho (fun v5 ho => ?_)
    refine j_istore (lv' := fun x6 => [(4, .int x4), (5, .int x6)]) B eX1_dislikes_25 [3, 0] (by decide) (fun _ => rfl) ho (fun x6 ho => ?_)
    refine j_iload B eX1_dislikes_27 1 rfl ?_
    refine j_const B eX1_dislikes_29 ?_
    refine j_icmp_ge B eX1_dislikes_30 ho (fun _ ho => ?_) (fun _ ho => ?_)
    · refine j_iload B eX1_dislikes_56 1 rfl ?_
      refine j_const B eX1_dislikes_58 ?_
      refine j_icmp_ne B eX1_dislikes_59 ho (fun _ ho => ?_) (fun _ ho => ?_)
      · refine j_iload B eX1_dislikes_76 0 rfl ?_
        refine j_const B eX1_dislikes_78 ?_
        refine j_icmp_ne B eX1_dislikes_79 ho (fun _ ho => ?_) (fun _ ho => ?_)
        · refine j_const B eX1_dislikes_86 ?_
          exact j_iret B hr hQ eX1_dislikes_87 ho
        · refine j_const B eX1_dislikes_82 ?_
          refine j_goto B eX1_dislikes_83 ?_
          exact j_iret B hr hQ eX1_dislikes_87 ho
      · refine j_iload B eX1_dislikes_62 0 rfl ?_
        refine j_const B eX1_dislikes_64 ?_
        refine j_icmp_ne B eX1_dislikes_65 ho (fun _ ho => ?_) (fun _ ho => ?_)
        · refine j_const B eX1_dislikes_72 ?_
          refine j_goto B eX1_dislikes_73 ?_
          exact j_iret B hr hQ eX1_dislikes_87 ho
        · refine j_const B eX1_dislikes_68 ?_
          refine j_goto B eX1_dislikes_69 ?_
          exact j_iret B hr hQ eX1_dislikes_87 ho
    · refine j_iload B eX1_dislikes_33 0 rfl ?_
      refine j_const B eX1_dislikes_35 ?_
      refine j_icmp_ne B eX1_dislikes_36 ho (fun _ ho => ?_) (fun _ ho => ?_)
      · refine j_iload B eX1_dislikes_43 0 rfl ?_
        refine j_iload B eX1_dislikes_45 1 rfl ?_
        refine j_icmp_ne B eX1_dislikes_47 ho (fun _ ho => ?_) (fun _ ho => ?_)
        · refine j_const B eX1_dislikes_54 ?_
          exact j_iret B hr hQ eX1_dislikes_55 ho
        · refine j_const B eX1_dislikes_50 ?_
          refine j_goto B eX1_dislikes_51 ?_
          exact j_iret B hr hQ eX1_dislikes_55 ho
      · refine j_const B eX1_dislikes_39 ?_
        refine j_goto B eX1_dislikes_40 ?_
        exact j_iret B hr hQ eX1_dislikes_55 ho
  · refine j_icmp_le B eX1_dislikes_7 ho (fun _ ho => ?_) (fun _ ho => ?_)
    · refine j_iload_n B eX1_dislikes_14 3 rfl ?_
      refine j_const B eX1_dislikes_15 ?_
      refine j_irm B eX1_dislikes_16 (by decide) ?_
      refine j_lsub (lv' := [(0, .ref (ad 99)), (1, .int a1)]) [0, 1] rfl ?_
      exact hJ3 _ ho
    · refine j_const B eX1_dislikes_10 ?_
      refine j_goto B eX1_dislikes_11 ?_
      refine j_lsub (lv' := [(0, .ref (ad 99)), (1, .int a1)]) [0, 1] rfl ?_
      exact hJ3 _ ho
def sM_costOf (w : Wd) (a1 : Int32) (a2 : Int32) (a3 : Int32) : Option (Int32) :=
  rd (inb a1 16) (w.2.1 2 (Int32.toNatClampNeg a1)) fun v1 => jn (fun z2 => nm z2 fun x4 => bd (sM_dislikes w a1 a2 a3) fun v5 => some (x4 + v5)) fun J3 => if v1 = a2 then (rd (inb a1 16) (w.2.1 3 (Int32.toNatClampNeg a1)) fun v6 => if v6 = a3 then (J3 (0 : Int32)) else (J3 (4 : Int32))) else (J3 (5 : Int32))
abbrev rmX1_costOf : Room := { frames := 1, cells := 0, slots := 0, locals := 25 }
theorem pkX1_costOf : PkV yX1_costOf RX1 cX1_costOf 5 (some .int) 3 := ⟨q1051, qs41, q58, q1052, by decide +kernel⟩
set_option maxHeartbeats 4000000 in
theorem met_X1_costOf (l : Launch) (D : va_G) (g : Nat → ClassId) (ad : Nat → Nat) (w : Wd) (a1 : Int32) (a2 : Int32) (a3 : Int32) (sz : Nat) (r : Int32) (ho : sM_costOf w a1 a2 a3 = some r) : Met l yX1_costOf (ws_ yX1_costOf cX1_costOf 5 (some .int)) rmX1_costOf (va_Pc [.ref (ad 99), .int a1, .int a2, .int a3] (MPre D vwCl (tysG g) (cellsM g ad w) NT sz)) (QcI D vwCl (tysG g) (cellsM g ad w) r (va_A (cellsM g ad w) sz)) 0 0 (va_A (cellsM g ad w) sz) := by
  refine met_XJ (cw := cellsM g ad) (w := w) (cc := cX1_costOf) (lv := [(0, .ref (ad 99)), (1, .int a1), (2, .int a2), (3, .int a3)]) pnX1 _ (Nat.le_of_ble_eq_true rfl) rfl ?_
  intro p e s m args below meth c R Q A B hN hr hsz hA hmm hRm hQ hAe
  unfold sM_costOf at ho
  refine j_aload_n B eX1_costOf_0 0 rfl ?_
  refine gfM_2 B eX1_costOf_1 ?_
  refine j_iload_n B eX1_costOf_4 1 rfl ?_
  refine ldM_2 B eX1_costOf_5 ho (fun v1 ho => ?_)
  refine j_iload_n B eX1_costOf_6 2 rfl ?_
  refine jn1 (C := fun z2 => XJ p l e R s m args below meth c 0 0 Q A D vwCl (cellsM g ad) 5 w 29 [(0, .ref (ad 99)), (1, .int a1), (2, .int a2), (3, .int a3)] [.int z2]) ho (fun z2 ho => ?_) (fun J3 hJ3 ho => ?_)
  · refine j_istore (lv' := fun x4 => [(0, .ref (ad 99)), (1, .int a1), (2, .int a2), (3, .int a3), (4, .int x4)]) B eX1_costOf_29 [1, 2, 3, 4, 0] (by decide) (fun _ => rfl) ho (fun x4 ho => ?_)
    refine j_iload B eX1_costOf_31 4 rfl ?_
    refine j_aload_n B eX1_costOf_33 0 rfl ?_
    refine j_iload_n B eX1_costOf_34 1 rfl ?_
    refine j_iload_n B eX1_costOf_35 2 rfl ?_
    refine j_iload_n B eX1_costOf_36 3 rfl ?_
    refine j_callVi (As := [.int a1, .int a2, .int a3]) B hA (met_X1_dislikes l D g ad w a1 a2 a3) NT_ok pkX1_dislikes q1053 0 rfl rfl rfl rfl hRm ⟨Nat.le_of_ble_eq_true rfl, Nat.le_of_ble_eq_true rfl⟩ rfl rfl (Nat.le_of_ble_eq_true rfl) ⟨Nat.zero_le _, Nat.zero_le _⟩ eX1_costOf_37 ho (fun v5 ho => ?_)
    refine j_iadd B eX1_costOf_40 ?_
    exact j_iret B hr hQ eX1_costOf_41 ho
  · refine j_icmp_eq B eX1_costOf_7 ho (fun _ ho => ?_) (fun _ ho => ?_)
    · refine j_aload_n B eX1_costOf_14 0 rfl ?_
      refine gfM_3 B eX1_costOf_15 ?_
      refine j_iload_n B eX1_costOf_18 1 rfl ?_
      refine ldM_3 B eX1_costOf_19 ho (fun v6 ho => ?_)
      refine j_iload_n B eX1_costOf_20 3 rfl ?_
      refine j_icmp_ne B eX1_costOf_21 ho (fun _ ho => ?_) (fun _ ho => ?_)
      · refine j_const B eX1_costOf_28 ?_
        exact hJ3 _ ho
      · refine j_const B eX1_costOf_24 ?_
        refine j_goto B eX1_costOf_25 ?_
        exact hJ3 _ ho
    · refine j_const B eX1_costOf_10 ?_
      refine j_goto B eX1_costOf_11 ?_
      exact hJ3 _ ho
def sM_fillCost_L102 (a1 : Int32) (a2 : Int32) (x2 : Int32) (x8 : Int32) (x12 : Int32) (w13 : Wd) (J20 : Int32 → Option (Wd)) : Int32 → Int32 → Option (Wd) :=
  fx (fun _ _ => none) (fun self25 x23 x24 =>
    if x2 ≤ x24 then (J20 x23) else (bd (sM_canSit w13 x8 a1 a2) fun v26 => if v26 = 0 then (J20 x23) else (if ((x12 >>> (x24 &&& 31)) &&& (1 : Int32)) = (1 : Int32) then (nm (x24 + (1 : Int32)) fun x33 => self25 x23 x33) else (bd (sM_costOf w13 x8 a1 x24) fun v27 => rd (inb (((256 : Int32) * (x8 + (1 : Int32))) + (x12 ||| ((1 : Int32) <<< (x24 &&& 31)))) 4352) (w13.2.1 24 (Int32.toNatClampNeg (((256 : Int32) * (x8 + (1 : Int32))) + (x12 ||| ((1 : Int32) <<< (x24 &&& 31)))))) fun v28 => nm (v27 + v28) fun x29 => if x23 ≤ x29 then (nm (x24 + (1 : Int32)) fun x30 => self25 x23 x30) else (nm x29 fun x31 => nm (x24 + (1 : Int32)) fun x32 => self25 x31 x32))))) FU
def sM_fillCost_L74 (a1 : Int32) (a2 : Int32) (x2 : Int32) (x3 : Int32) (x8 : Int32) (self10 : Int32 → Wd → Option (Wd)) : Int32 → Wd → Option (Wd) :=
  fx (fun _ _ => none) (fun self14 x12 w13 =>
    if x3 < x12 then (nm (x8 + (-1 : Int32)) fun x15 => self10 x15 w13) else (rd (inb (((256 : Int32) * (x8 + (1 : Int32))) + x12) 4352) (w13.2.1 24 (Int32.toNatClampNeg (((256 : Int32) * (x8 + (1 : Int32))) + x12))) fun v16 => nm v16 fun x17 => nm (0 : Int32) fun x18 => jn (fun x19 => rd (inb (((256 : Int32) * x8) + x12) 4352) (stG w13 24 (Int32.toNatClampNeg (((256 : Int32) * x8) + x12)) x19) fun w21 => nm (x12 + (1 : Int32)) fun x22 => self14 x22 w21) fun J20 => sM_fillCost_L102 a1 a2 x2 x8 x12 w13 J20 x17 x18)) FU
def sM_fillCost_L66 (a1 : Int32) (a2 : Int32) (x2 : Int32) (x3 : Int32) : Int32 → Wd → Option (Wd) :=
  fx (fun _ _ => none) (fun self10 x8 w9 =>
    if x8 < 0 then (some w9) else (nm (0 : Int32) fun x11 => sM_fillCost_L74 a1 a2 x2 x3 x8 self10 x11 w9)) FU
def sM_fillCost_L16 (x3 : Int32) (J6 : Wd → Option (Wd)) : Int32 → Wd → Option (Wd) :=
  fx (fun _ _ => none) (fun self36 x34 w35 =>
    if x3 < x34 then (J6 w35) else (jn (fun z37 => rd (inb (((256 : Int32) * (w35.2.1 90 10)) + x34) 4352) (stG w35 24 (Int32.toNatClampNeg (((256 : Int32) * (w35.2.1 90 10)) + x34)) z37) fun w39 => nm (x34 + (1 : Int32)) fun x40 => self36 x40 w39) fun J38 => if x34 = x3 then (J38 (0 : Int32)) else (J38 (1000000 : Int32)))) FU
def sM_fillCost (w : Wd) (a1 : Int32) (a2 : Int32) : Option (Wd) :=
  bd (sM_seatsOf w a1) fun v1 => nm v1 fun x2 => nm (((1 : Int32) <<< (x2 &&& 31)) - (1 : Int32)) fun x3 => nm (0 : Int32) fun x4 => jn (fun w5 => nm ((w5.2.1 90 10) - (1 : Int32)) fun x7 => sM_fillCost_L66 a1 a2 x2 x3 x7 w5) fun J6 => sM_fillCost_L16 x3 J6 x4 w
abbrev rmX1_fillCost : Room := { frames := 2, cells := 0, slots := 0, locals := 49 }
theorem pkX1_fillCost : PkV yX1_fillCost RX1 cX1_fillCost 10 (none) 2 := ⟨q1038, qs38, q58, q1039, by decide +kernel⟩
set_option maxHeartbeats 4000000 in
theorem met_X1_fillCost (l : Launch) (D : va_G) (g : Nat → ClassId) (ad : Nat → Nat) (w : Wd) (a1 : Int32) (a2 : Int32) (sz : Nat) (w' : Wd) (ho : sM_fillCost w a1 a2 = some w') : Met l yX1_fillCost (ws_ yX1_fillCost cX1_fillCost 10 (none)) rmX1_fillCost (va_Pc [.ref (ad 99), .int a1, .int a2] (MPre D vwCl (tysG g) (cellsM g ad w) NT sz)) (QcV D vwCl (tysG g) (cellsM g ad w') (va_A (cellsM g ad w) sz)) 0 0 (va_A (cellsM g ad w) sz) := by
  refine met_XJ (cw := cellsM g ad) (w := w) (cc := cX1_fillCost) (lv := [(0, .ref (ad 99)), (1, .int a1), (2, .int a2)]) pnX1 _ (Nat.le_of_ble_eq_true rfl) rfl ?_
  intro p e s m args below meth c R Q A B hN hr hsz hA hmm hRm hQ hAe
  unfold sM_fillCost at ho
  refine j_aload_n B eX1_fillCost_0 0 rfl ?_
  refine j_iload_n B eX1_fillCost_1 1 rfl ?_
  refine j_callVi (As := [.int a1]) B hA (met_X1_seatsOf l D g ad w a1) NT_ok pkX1_seatsOf q955 0 rfl rfl rfl rfl hRm ⟨Nat.le_of_ble_eq_true rfl, Nat.le_of_ble_eq_true rfl⟩ rfl rfl (Nat.le_of_ble_eq_true rfl) ⟨Nat.zero_le _, Nat.zero_le _⟩ eX1_fillCost_2 ho (fun v1 ho => ?_)
  refine j_istore_n (lv' := fun x2 => [(0, .ref (ad 99)), (1, .int a1), (2, .int a2), (3, .int x2)]) B eX1_fillCost_5 [1, 2, 3, 0] (by decide) (fun _ => rfl) ho (fun x2 ho => ?_)
  refine j_const B eX1_fillCost_6 ?_
  refine j_iload_n B eX1_fillCost_7 3 rfl ?_
  refine j_ishl B eX1_fillCost_8 ?_
  refine j_const B eX1_fillCost_9 ?_
  refine j_isub B eX1_fillCost_10 ?_
  refine j_istore (lv' := fun x3 => [(0, .ref (ad 99)), (1, .int a1), (2, .int a2), (3, .int x2), (4, .int x3)]) B eX1_fillCost_11 [1, 2, 3, 4, 0] (by decide) (fun _ => rfl) ho (fun x3 ho => ?_)
  refine j_const B eX1_fillCost_13 ?_
  refine j_istore (lv' := fun x4 => [(0, .ref (ad 99)), (1, .int a1), (2, .int a2), (3, .int x2), (4, .int x3), (5, .int x4)]) B eX1_fillCost_14 [1, 2, 3, 4, 5, 0] (by decide) (fun _ => rfl) ho (fun x4 ho => ?_)
  refine jn1 (C := fun w5 => XJ p l e R s m args below meth c 0 0 Q A D vwCl (cellsM g ad) 10 w5 58 [(0, .ref (ad 99)), (1, .int a1), (2, .int a2), (3, .int x2), (4, .int x3)] []) ho (fun w5 ho => ?_) (fun J6 hJ6 ho => ?_)
  · refine j_aload_n B eX1_fillCost_58 0 rfl ?_
    refine gfM_10 B eX1_fillCost_59 ?_
    refine j_const B eX1_fillCost_62 ?_
    refine j_isub B eX1_fillCost_63 ?_
    refine j_istore (lv' := fun x7 => [(0, .ref (ad 99)), (1, .int a1), (2, .int a2), (3, .int x2), (4, .int x3), (5, .int x7)]) B eX1_fillCost_64 [1, 2, 3, 4, 5, 0] (by decide) (fun _ => rfl) ho (fun x7 ho => ?_)
    unfold sM_fillCost_L66 at ho
    refine fx2 (C := fun x8 w9 => XJ p l e R s m args below meth c 0 0 Q A D vwCl (cellsM g ad) 10 w9 66 [(0, .ref (ad 99)), (1, .int a1), (2, .int a2), (3, .int x2), (4, .int x3), (5, .int x8)] []) (fun self10 hself10 x8 w9 ho => ?_) FU _ _ ho
    refine j_iload B eX1_fillCost_66 5 rfl ?_
    refine j_if_lt B eX1_fillCost_68 ho (fun _ ho => ?_) (fun _ ho => ?_)
    · exact j_vretw B hr hQ eX1_fillCost_211 ho
    · refine j_const B eX1_fillCost_71 ?_
      refine j_istore (lv' := fun x11 => [(0, .ref (ad 99)), (1, .int a1), (2, .int a2), (3, .int x2), (4, .int x3), (5, .int x8), (6, .int x11)]) B eX1_fillCost_72 [1, 2, 3, 4, 5, 6, 0] (by decide) (fun _ => rfl) ho (fun x11 ho => ?_)
      unfold sM_fillCost_L74 at ho
      refine fx2 (C := fun x12 w13 => XJ p l e R s m args below meth c 0 0 Q A D vwCl (cellsM g ad) 10 w13 74 [(0, .ref (ad 99)), (1, .int a1), (2, .int a2), (3, .int x2), (4, .int x3), (5, .int x8), (6, .int x12)] []) (fun self14 hself14 x12 w13 ho => ?_) FU _ _ ho
      refine j_iload B eX1_fillCost_74 6 rfl ?_
      refine j_iload B eX1_fillCost_76 4 rfl ?_
      refine j_icmp_gt B eX1_fillCost_78 ho (fun _ ho => ?_) (fun _ ho => ?_)
      · refine j_iinc (d := -1) (lv' := fun x15 => [(0, .ref (ad 99)), (1, .int a1), (2, .int a2), (3, .int x2), (4, .int x3), (5, .int x15)]) B eX1_fillCost_205 5 rfl (by decide) [1, 2, 3, 4, 5, 0] (by decide) (fun _ => rfl) ho (fun x15 ho => ?_)
        refine j_goto B eX1_fillCost_208 ?_
        exact hself10 _ _ ho
      · refine j_aload_n B eX1_fillCost_81 0 rfl ?_
        refine gfM_24 B eX1_fillCost_82 ?_
        refine j_const B eX1_fillCost_85 ?_
        refine j_iload B eX1_fillCost_88 5 rfl ?_
        refine j_const B eX1_fillCost_90 ?_
        refine j_iadd B eX1_fillCost_91 ?_
        refine j_imul B eX1_fillCost_92 ?_
        refine j_iload B eX1_fillCost_93 6 rfl ?_
        refine j_iadd B eX1_fillCost_95 ?_
        refine ldM_24 B eX1_fillCost_96 ho (fun v16 ho => ?_)
        refine j_istore (lv' := fun x17 => [(0, .ref (ad 99)), (1, .int a1), (2, .int a2), (3, .int x2), (4, .int x3), (5, .int x8), (6, .int x12), (7, .int x17)]) B eX1_fillCost_97 [1, 2, 3, 4, 5, 6, 7, 0] (by decide) (fun _ => rfl) ho (fun x17 ho => ?_)
        refine j_const B eX1_fillCost_99 ?_
        refine j_istore (lv' := fun x18 => [(0, .ref (ad 99)), (1, .int a1), (2, .int a2), (3, .int x2), (4, .int x3), (5, .int x8), (6, .int x12), (7, .int x17), (8, .int x18)]) B eX1_fillCost_100 [1, 2, 3, 4, 5, 6, 7, 8, 0] (by decide) (fun _ => rfl) ho (fun x18 ho => ?_)
        refine jn1 (C := fun x19 => XJ p l e R s m args below meth c 0 0 Q A D vwCl (cellsM g ad) 10 w13 183 [(0, .ref (ad 99)), (1, .int a1), (2, .int a2), (3, .int x2), (4, .int x3), (5, .int x8), (6, .int x12), (7, .int x19)] []) ho (fun x19 ho => ?_) (fun J20 hJ20 ho => ?_)
        · refine j_aload_n B eX1_fillCost_183 0 rfl ?_
          refine gfM_24 B eX1_fillCost_184 ?_
          refine j_const B eX1_fillCost_187 ?_
          refine j_iload B eX1_fillCost_190 5 rfl ?_
          refine j_imul B eX1_fillCost_192 ?_
          refine j_iload B eX1_fillCost_193 6 rfl ?_
          refine j_iadd B eX1_fillCost_195 ?_
          refine j_iload B eX1_fillCost_196 7 rfl ?_
          refine stM_24 B eX1_fillCost_198 ho (fun w21 ho => ?_)
          refine j_iinc (d := 1) (lv' := fun x22 => [(0, .ref (ad 99)), (1, .int a1), (2, .int a2), (3, .int x2), (4, .int x3), (5, .int x8), (6, .int x22)]) B eX1_fillCost_199 6 rfl (by decide) [1, 2, 3, 4, 5, 6, 0] (by decide) (fun _ => rfl) ho (fun x22 ho => ?_)
          refine j_goto B eX1_fillCost_202 ?_
          exact hself14 _ _ ho
        · unfold sM_fillCost_L102 at ho
          refine fx2 (C := fun x23 x24 => XJ p l e R s m args below meth c 0 0 Q A D vwCl (cellsM g ad) 10 w13 102 [(0, .ref (ad 99)), (1, .int a1), (2, .int a2), (3, .int x2), (4, .int x3), (5, .int x8), (6, .int x12), (7, .int x23), (8, .int x24)] []) (fun self25 hself25 x23 x24 ho => ?_) FU _ _ ho
          refine j_iload B eX1_fillCost_102 8 rfl ?_
          refine j_iload_n B eX1_fillCost_104 3 rfl ?_
          refine j_icmp_ge B eX1_fillCost_105 ho (fun _ ho => ?_) (fun _ ho => ?_)
          · refine j_lsub (lv' := [(0, .ref (ad 99)), (1, .int a1), (2, .int a2), (3, .int x2), (4, .int x3), (5, .int x8), (6, .int x12), (7, .int x23)]) [0, 1, 2, 3, 4, 5, 6, 7] rfl ?_
            exact hJ20 _ ho
          · refine j_aload_n B eX1_fillCost_108 0 rfl ?_
            refine j_iload B eX1_fillCost_109 5 rfl ?_
            refine j_iload_n B eX1_fillCost_111 1 rfl ?_
            refine j_iload_n B eX1_fillCost_112 2 rfl ?_
            refine j_callVi (As := [.int x8, .int a1, .int a2]) B hA (met_X1_canSit l D g ad w13 x8 a1 a2) NT_ok pkX1_canSit q1041 0 rfl rfl rfl rfl hRm ⟨Nat.le_of_ble_eq_true rfl, Nat.le_of_ble_eq_true rfl⟩ rfl rfl (Nat.le_of_ble_eq_true rfl) ⟨Nat.zero_le _, Nat.zero_le _⟩ eX1_fillCost_113 ho (fun v26 ho => ?_)
            refine j_if_eq B eX1_fillCost_116 ho (fun _ ho => ?_) (fun _ ho => ?_)
            · refine j_lsub (lv' := [(0, .ref (ad 99)), (1, .int a1), (2, .int a2), (3, .int x2), (4, .int x3), (5, .int x8), (6, .int x12), (7, .int x23)]) [0, 1, 2, 3, 4, 5, 6, 7] rfl ?_
              exact hJ20 _ ho
            · refine j_iload B eX1_fillCost_119 6 rfl ?_
              refine j_iload B eX1_fillCost_121 8 rfl ?_
              refine j_ishr B eX1_fillCost_123 ?_
              refine j_const B eX1_fillCost_124 ?_
              refine j_iand B eX1_fillCost_125 ?_
              refine j_const B eX1_fillCost_126 ?_
              refine j_icmp_ne B eX1_fillCost_127 ho (fun _ ho => ?_) (fun _ ho => ?_)
              · refine j_aload_n B eX1_fillCost_133 0 rfl ?_
                refine j_iload B eX1_fillCost_134 5 rfl ?_
                refine j_iload_n B eX1_fillCost_136 1 rfl ?_
                refine j_iload B eX1_fillCost_137 8 rfl ?_
                refine j_callVi (As := [.int x8, .int a1, .int x24]) B hA (met_X1_costOf l D g ad w13 x8 a1 x24) NT_ok pkX1_costOf q1049 0 rfl rfl rfl rfl hRm ⟨Nat.le_of_ble_eq_true rfl, Nat.le_of_ble_eq_true rfl⟩ rfl rfl (Nat.le_of_ble_eq_true rfl) ⟨Nat.zero_le _, Nat.zero_le _⟩ eX1_fillCost_139 ho (fun v27 ho => ?_)
                refine j_aload_n B eX1_fillCost_142 0 rfl ?_
                refine gfM_24 B eX1_fillCost_143 ?_
                refine j_const B eX1_fillCost_146 ?_
                refine j_iload B eX1_fillCost_149 5 rfl ?_
                refine j_const B eX1_fillCost_151 ?_
                refine j_iadd B eX1_fillCost_152 ?_
                refine j_imul B eX1_fillCost_153 ?_
                refine j_iload B eX1_fillCost_154 6 rfl ?_
                refine j_const B eX1_fillCost_156 ?_
                refine j_iload B eX1_fillCost_157 8 rfl ?_
                refine j_ishl B eX1_fillCost_159 ?_
                refine j_ior B eX1_fillCost_160 ?_
                refine j_iadd B eX1_fillCost_161 ?_
                refine ldM_24 B eX1_fillCost_162 ho (fun v28 ho => ?_)
                refine j_iadd B eX1_fillCost_163 ?_
                refine j_istore (lv' := fun x29 => [(0, .ref (ad 99)), (1, .int a1), (2, .int a2), (3, .int x2), (4, .int x3), (5, .int x8), (6, .int x12), (7, .int x23), (8, .int x24), (9, .int x29)]) B eX1_fillCost_164 [1, 2, 3, 4, 5, 6, 7, 8, 9, 0] (by decide) (fun _ => rfl) ho (fun x29 ho => ?_)
                refine j_iload B eX1_fillCost_166 9 rfl ?_
                refine j_iload B eX1_fillCost_168 7 rfl ?_
                refine j_icmp_ge B eX1_fillCost_170 ho (fun _ ho => ?_) (fun _ ho => ?_)
                · refine j_iinc (d := 1) (lv' := fun x30 => [(0, .ref (ad 99)), (1, .int a1), (2, .int a2), (3, .int x2), (4, .int x3), (5, .int x8), (6, .int x12), (7, .int x23), (8, .int x30)]) B eX1_fillCost_177 8 rfl (by decide) [1, 2, 3, 4, 5, 6, 7, 8, 0] (by decide) (fun _ => rfl) ho (fun x30 ho => ?_)
                  refine j_goto B eX1_fillCost_180 ?_
                  exact hself25 _ _ ho
                · refine j_iload B eX1_fillCost_173 9 rfl ?_
                  refine j_istore (lv' := fun x31 => [(0, .ref (ad 99)), (1, .int a1), (2, .int a2), (3, .int x2), (4, .int x3), (5, .int x8), (6, .int x12), (7, .int x31), (8, .int x24)]) B eX1_fillCost_175 [1, 2, 3, 4, 5, 6, 7, 0, 8] (by decide) (fun _ => rfl) ho (fun x31 ho => ?_)
                  refine j_iinc (d := 1) (lv' := fun x32 => [(0, .ref (ad 99)), (1, .int a1), (2, .int a2), (3, .int x2), (4, .int x3), (5, .int x8), (6, .int x12), (7, .int x31), (8, .int x32)]) B eX1_fillCost_177 8 rfl (by decide) [1, 2, 3, 4, 5, 6, 7, 8, 0] (by decide) (fun _ => rfl) ho (fun x32 ho => ?_)
                  refine j_goto B eX1_fillCost_180 ?_
                  exact hself25 _ _ ho
              · refine j_goto B eX1_fillCost_130 ?_
                refine j_iinc (d := 1) (lv' := fun x33 => [(0, .ref (ad 99)), (1, .int a1), (2, .int a2), (3, .int x2), (4, .int x3), (5, .int x8), (6, .int x12), (7, .int x23), (8, .int x33)]) B eX1_fillCost_177 8 rfl (by decide) [1, 2, 3, 4, 5, 6, 7, 8, 0] (by decide) (fun _ => rfl) ho (fun x33 ho => ?_)
                refine j_goto B eX1_fillCost_180 ?_
                exact hself25 _ _ ho
  · unfold sM_fillCost_L16 at ho
    refine fx2 (C := fun x34 w35 => XJ p l e R s m args below meth c 0 0 Q A D vwCl (cellsM g ad) 10 w35 16 [(0, .ref (ad 99)), (1, .int a1), (2, .int a2), (3, .int x2), (4, .int x3), (5, .int x34)] []) (fun self36 hself36 x34 w35 ho => ?_) FU _ _ ho
    refine j_iload B eX1_fillCost_16 5 rfl ?_
    refine j_iload B eX1_fillCost_18 4 rfl ?_
    refine j_icmp_gt B eX1_fillCost_20 ho (fun _ ho => ?_) (fun _ ho => ?_)
    · refine j_lsub (lv' := [(0, .ref (ad 99)), (1, .int a1), (2, .int a2), (3, .int x2), (4, .int x3)]) [0, 1, 2, 3, 4] rfl ?_
      exact hJ6 _ ho
    · refine j_aload_n B eX1_fillCost_23 0 rfl ?_
      refine gfM_24 B eX1_fillCost_24 ?_
      refine j_const B eX1_fillCost_27 ?_
      refine j_aload_n B eX1_fillCost_30 0 rfl ?_
      refine gfM_10 B eX1_fillCost_31 ?_
      refine j_imul B eX1_fillCost_34 ?_
      refine j_iload B eX1_fillCost_35 5 rfl ?_
      refine j_iadd B eX1_fillCost_37 ?_
      refine j_iload B eX1_fillCost_38 5 rfl ?_
      refine j_iload B eX1_fillCost_40 4 rfl ?_
      refine jn1 (C := fun z37 => XJ p l e R s m args below meth c 0 0 Q A D vwCl (cellsM g ad) 10 w35 51 [(0, .ref (ad 99)), (1, .int a1), (2, .int a2), (3, .int x2), (4, .int x3), (5, .int x34)] [.int z37, .int (((256 : Int32) * (w35.2.1 90 10)) + x34), .ref (ad 24)]) ho (fun z37 ho => ?_) (fun J38 hJ38 ho => ?_)
      · refine stM_24 B eX1_fillCost_51 ho (fun w39 ho => ?_)
        refine j_iinc (d := 1) (lv' := fun x40 => [(0, .ref (ad 99)), (1, .int a1), (2, .int a2), (3, .int x2), (4, .int x3), (5, .int x40)]) B eX1_fillCost_52 5 rfl (by decide) [1, 2, 3, 4, 5, 0] (by decide) (fun _ => rfl) ho (fun x40 ho => ?_)
        refine j_goto B eX1_fillCost_55 ?_
        exact hself36 _ _ ho
      · refine j_icmp_ne B eX1_fillCost_42 ho (fun _ ho => ?_) (fun _ ho => ?_)
        · refine j_ldc B eX1_fillCost_49 q1040 ?_
          exact hJ38 _ ho
        · refine j_const B eX1_fillCost_45 ?_
          refine j_goto B eX1_fillCost_46 ?_
          exact hJ38 _ ho
def sM_crew_L229 (a1 : Int32) (x6 : Int32) : Int32 → Wd → Option (Int32 × Wd) :=
  fx (fun _ _ => none) (fun self14 x12 w13 =>
    if (w13.2.1 90 10) ≤ x12 then (some (x6, w13)) else (rd (inb x12 16) (w13.2.1 2 (Int32.toNatClampNeg x12)) fun v15 => jn (fun w16 => rd (inb x12 16) (w16.2.1 25 (Int32.toNatClampNeg x12)) fun v18 => if 0 ≤ v18 then (rd (inb x12 16) (stG w16 2 (Int32.toNatClampNeg x12) a1) fun w19 => rd (inb x12 16) (w19.2.1 25 (Int32.toNatClampNeg x12)) fun v20 => rd (inb x12 16) (stG w19 3 (Int32.toNatClampNeg x12) v20) fun w21 => nm (x12 + (1 : Int32)) fun x22 => self14 x22 w21) else (nm (x12 + (1 : Int32)) fun x23 => self14 x23 w16)) fun J17 => if v15 = a1 then (rd (inb x12 16) (w13.2.1 3 (Int32.toNatClampNeg x12)) fun v24 => if v24 = (8 : Int32) then (J17 w13) else (rd (inb x12 16) (stG w13 2 (Int32.toNatClampNeg x12) (-1 : Int32)) fun w25 => J17 w25)) else (J17 w13))) FU
def sM_crew_L92 (a1 : Int32) (a2 : Int32) (x26 : Int32) (x27 : Int32) (J33 : Wd → Option (Int32 × Wd)) : Int32 → Wd → Option (Int32 × Wd) :=
  fx (fun _ _ => none) (fun self41 x39 w40 =>
    bd (sM_seatsOf w40 a1) fun v42 => if v42 ≤ x39 then (J33 w40) else (rd (inb x27 16) (w40.2.1 25 (Int32.toNatClampNeg x27)) fun v43 => if 0 ≤ v43 then (J33 w40) else (bd (sM_canSit w40 x27 a1 a2) fun v44 => if v44 = 0 then (J33 w40) else (if ((x26 >>> (x39 &&& 31)) &&& (1 : Int32)) = 0 then (bd (sM_costOf w40 x27 a1 x39) fun v46 => rd (inb (((256 : Int32) * (x27 + (1 : Int32))) + (x26 ||| ((1 : Int32) <<< (x39 &&& 31)))) 4352) (w40.2.1 24 (Int32.toNatClampNeg (((256 : Int32) * (x27 + (1 : Int32))) + (x26 ||| ((1 : Int32) <<< (x39 &&& 31)))))) fun v47 => rd (inb (((256 : Int32) * x27) + x26) 4352) (w40.2.1 24 (Int32.toNatClampNeg (((256 : Int32) * x27) + x26))) fun v48 => if (v46 + v47) = v48 then (rd (inb x27 16) (stG w40 25 (Int32.toNatClampNeg x27) x39) fun w50 => nm (x39 + (1 : Int32)) fun x51 => self41 x51 w50) else (nm (x39 + (1 : Int32)) fun x49 => self41 x49 w40)) else (nm (x39 + (1 : Int32)) fun x45 => self41 x45 w40))))) FU
def sM_crew_L72 (a1 : Int32) (a2 : Int32) (J10 : Wd → Option (Int32 × Wd)) : Int32 → Int32 → Wd → Option (Int32 × Wd) :=
  fx (fun _ _ _ => none) (fun self29 x26 x27 w28 =>
    if (w28.2.1 90 10) ≤ x27 then (J10 w28) else (rd (inb x27 16) (stG w28 25 (Int32.toNatClampNeg x27) (-1 : Int32)) fun w30 => nm (0 : Int32) fun x31 => jn (fun w32 => rd (inb x27 16) (w32.2.1 25 (Int32.toNatClampNeg x27)) fun v34 => if v34 < 0 then (nm (x27 + (1 : Int32)) fun x35 => self29 x26 x35 w32) else (rd (inb x27 16) (w32.2.1 25 (Int32.toNatClampNeg x27)) fun v36 => nm (x26 ||| ((1 : Int32) <<< (v36 &&& 31))) fun x37 => nm (x27 + (1 : Int32)) fun x38 => self29 x37 x38 w32)) fun J33 => sM_crew_L92 a1 a2 x26 x27 J33 x31 w30)) FU
def sM_crew (w : Wd) (a1 : Int32) (a2 : Int32) (a3 : Int32) : Option (Int32 × Wd) :=
  bd (sM_isBoat w a1) fun v1 => if v1 = 0 then (some ((-1 : Int32), w)) else (bd (sM_isIn (Int32.toInt64 a2) (0 : Int64) (23 : Int64)) fun v2 => if v2 = 0 then (some ((-2 : Int32), w)) else (bd (sM_isIn (Int32.toInt64 a3) (0 : Int64) (1 : Int64)) fun v3 => if v3 = 0 then (some ((-2 : Int32), w)) else (bd (sM_fillCost w a1 a2) fun w4 => rd (inb (0 : Int32) 4352) (w4.2.1 24 (Int32.toNatClampNeg (0 : Int32))) fun v5 => nm v5 fun x6 => if x6 < (1000000 : Int32) then (if a3 = 0 then (some (x6, w4)) else (nm (0 : Int32) fun x7 => nm (0 : Int32) fun x8 => jn (fun w9 => nm (0 : Int32) fun x11 => sM_crew_L229 a1 x6 x11 w9) fun J10 => sM_crew_L72 a1 a2 J10 x7 x8 w4)) else (some ((-3 : Int32), w4)))))
abbrev rmX1_crew : Room := { frames := 3, cells := 0, slots := 0, locals := 78 }
theorem pkX1_crew : PkV yX1_crew RX1 cX1_crew 8 (some .int) 3 := ⟨q1032, q1033, q58, q1034, by decide +kernel⟩
set_option maxHeartbeats 4000000 in
theorem met_X1_crew (l : Launch) (D : va_G) (g : Nat → ClassId) (ad : Nat → Nat) (w : Wd) (a1 : Int32) (a2 : Int32) (a3 : Int32) (sz : Nat) (r : Int32) (w' : Wd) (ho : sM_crew w a1 a2 a3 = some (r, w')) : Met l yX1_crew (ws_ yX1_crew cX1_crew 8 (some .int)) rmX1_crew (va_Pc [.ref (ad 99), .int a1, .int a2, .int a3] (MPre D vwCl (tysG g) (cellsM g ad w) NT sz)) (QcI D vwCl (tysG g) (cellsM g ad w') r (va_A (cellsM g ad w) sz)) 0 0 (va_A (cellsM g ad w) sz) := by
  refine met_XJ (cw := cellsM g ad) (w := w) (cc := cX1_crew) (lv := [(0, .ref (ad 99)), (1, .int a1), (2, .int a2), (3, .int a3)]) pnX1 _ (Nat.le_of_ble_eq_true rfl) rfl ?_
  intro p e s m args below meth c R Q A B hN hr hsz hA hmm hRm hQ hAe
  unfold sM_crew at ho
  refine j_aload_n B eX1_crew_0 0 rfl ?_
  refine j_iload_n B eX1_crew_1 1 rfl ?_
  refine j_callVi (As := [.int a1]) B hA (met_X1_isBoat l D g ad w a1) NT_ok pkX1_isBoat q951 0 rfl rfl rfl rfl hRm ⟨Nat.le_of_ble_eq_true rfl, Nat.le_of_ble_eq_true rfl⟩ rfl rfl (Nat.le_of_ble_eq_true rfl) ⟨Nat.zero_le _, Nat.zero_le _⟩ eX1_crew_2 ho (fun v1 ho => ?_)
  refine j_if_ne B eX1_crew_5 ho (fun _ ho => ?_) (fun _ ho => ?_)
  · refine j_iload_n B eX1_crew_10 2 rfl ?_
    refine j_i2l B eX1_crew_11 ?_
    refine j_lconst (v := 0) B eX1_crew_12 rfl ?_
    refine j_ldc2 B eX1_crew_13 q1035 ?_
    refine j_callSi (As := [.long (Int32.toInt64 a2), .long (0 : Int64), .long (23 : Int64)]) B hA (met_X1_isIn l D _ _ _ (Int32.toInt64 a2) (0 : Int64) (23 : Int64)) NT_ok pkX1_isIn q925 rfl rfl hRm ⟨Nat.le_of_ble_eq_true rfl, Nat.le_of_ble_eq_true rfl⟩ rfl rfl (Nat.le_of_ble_eq_true rfl) ⟨Nat.zero_le _, Nat.zero_le _⟩ eX1_crew_16 ho (fun v2 ho => ?_)
    refine j_if_eq B eX1_crew_19 ho (fun _ ho => ?_) (fun _ ho => ?_)
    · refine j_const B eX1_crew_32 ?_
      exact j_iretw B hr hQ eX1_crew_34 ho
    · refine j_iload_n B eX1_crew_22 3 rfl ?_
      refine j_i2l B eX1_crew_23 ?_
      refine j_lconst (v := 0) B eX1_crew_24 rfl ?_
      refine j_lconst (v := 1) B eX1_crew_25 rfl ?_
      refine j_callSi (As := [.long (Int32.toInt64 a3), .long (0 : Int64), .long (1 : Int64)]) B hA (met_X1_isIn l D _ _ _ (Int32.toInt64 a3) (0 : Int64) (1 : Int64)) NT_ok pkX1_isIn q925 rfl rfl hRm ⟨Nat.le_of_ble_eq_true rfl, Nat.le_of_ble_eq_true rfl⟩ rfl rfl (Nat.le_of_ble_eq_true rfl) ⟨Nat.zero_le _, Nat.zero_le _⟩ eX1_crew_26 ho (fun v3 ho => ?_)
      refine j_if_ne B eX1_crew_29 ho (fun _ ho => ?_) (fun _ ho => ?_)
      · refine j_aload_n B eX1_crew_35 0 rfl ?_
        refine j_iload_n B eX1_crew_36 1 rfl ?_
        refine j_iload_n B eX1_crew_37 2 rfl ?_
        refine j_callVvw (As := [.int a1, .int a2]) B hA (met_X1_fillCost l D g ad w a1 a2) NT_ok pkX1_fillCost q1036 0 rfl rfl rfl rfl hRm ⟨Nat.le_of_ble_eq_true rfl, Nat.le_of_ble_eq_true rfl⟩ rfl rfl (Nat.le_of_ble_eq_true rfl) ⟨Nat.zero_le _, Nat.zero_le _⟩ eX1_crew_38 ho (fun w4 ho => ?_)
        refine j_aload_n B eX1_crew_41 0 rfl ?_
        refine gfM_24 B eX1_crew_42 ?_
        refine j_const B eX1_crew_45 ?_
        refine ldM_24 B eX1_crew_46 ho (fun v5 ho => ?_)
        refine j_istore (lv' := fun x6 => [(0, .ref (ad 99)), (1, .int a1), (2, .int a2), (3, .int a3), (4, .int x6)]) B eX1_crew_47 [1, 2, 3, 4, 0] (by decide) (fun _ => rfl) ho (fun x6 ho => ?_)
        refine j_iload B eX1_crew_49 4 rfl ?_
        refine j_ldc B eX1_crew_51 q1040 ?_
        refine j_icmp_lt B eX1_crew_53 ho (fun _ ho => ?_) (fun _ ho => ?_)
        · refine j_iload_n B eX1_crew_59 3 rfl ?_
          refine j_if_ne B eX1_crew_60 ho (fun _ ho => ?_) (fun _ ho => ?_)
          · refine j_const B eX1_crew_66 ?_
            refine j_istore (lv' := fun x7 => [(0, .ref (ad 99)), (1, .int a1), (2, .int a2), (4, .int x6), (5, .int x7)]) B eX1_crew_67 [1, 2, 3, 5, 0] (by decide) (fun _ => rfl) ho (fun x7 ho => ?_)
            refine j_const B eX1_crew_69 ?_
            refine j_istore (lv' := fun x8 => [(0, .ref (ad 99)), (1, .int a1), (2, .int a2), (4, .int x6), (5, .int x7), (6, .int x8)]) B eX1_crew_70 [1, 2, 3, 4, 5, 0] (by decide) (fun _ => rfl) ho (fun x8 ho => ?_)
            refine jn1 (C := fun w9 => XJ p l e R s m args below meth c 0 0 Q A D vwCl (cellsM g ad) 8 w9 226 [(0, .ref (ad 99)), (1, .int a1), (4, .int x6)] []) ho (fun w9 ho => ?_) (fun J10 hJ10 ho => ?_)
            · refine j_const B eX1_crew_226 ?_
              refine j_istore (lv' := fun x11 => [(0, .ref (ad 99)), (1, .int a1), (4, .int x6), (6, .int x11)]) B eX1_crew_227 [1, 2, 3, 0] (by decide) (fun _ => rfl) ho (fun x11 ho => ?_)
              unfold sM_crew_L229 at ho
              refine fx2 (C := fun x12 w13 => XJ p l e R s m args below meth c 0 0 Q A D vwCl (cellsM g ad) 8 w13 229 [(0, .ref (ad 99)), (1, .int a1), (4, .int x6), (6, .int x12)] []) (fun self14 hself14 x12 w13 ho => ?_) FU _ _ ho
              refine j_iload B eX1_crew_229 3 rfl ?_
              refine j_aload_n B eX1_crew_231 0 rfl ?_
              refine gfM_10 B eX1_crew_232 ?_
              refine j_icmp_ge B eX1_crew_235 ho (fun _ ho => ?_) (fun _ ho => ?_)
              · refine j_iload B eX1_crew_310 2 rfl ?_
                exact j_iretw B hr hQ eX1_crew_312 ho
              · refine j_aload_n B eX1_crew_238 0 rfl ?_
                refine gfM_2 B eX1_crew_239 ?_
                refine j_iload B eX1_crew_242 3 rfl ?_
                refine ldM_2 B eX1_crew_244 ho (fun v15 ho => ?_)
                refine j_iload_n B eX1_crew_245 1 rfl ?_
                refine jn1 (C := fun w16 => XJ p l e R s m args below meth c 0 0 Q A D vwCl (cellsM g ad) 8 w16 269 [(0, .ref (ad 99)), (1, .int a1), (4, .int x6), (6, .int x12)] []) ho (fun w16 ho => ?_) (fun J17 hJ17 ho => ?_)
                · refine j_aload_n B eX1_crew_269 0 rfl ?_
                  refine gfM_25 B eX1_crew_270 ?_
                  refine j_iload B eX1_crew_273 3 rfl ?_
                  refine ldM_25 B eX1_crew_275 ho (fun v18 ho => ?_)
                  refine j_if_ge B eX1_crew_276 ho (fun _ ho => ?_) (fun _ ho => ?_)
                  · refine j_aload_n B eX1_crew_282 0 rfl ?_
                    refine gfM_2 B eX1_crew_283 ?_
                    refine j_iload B eX1_crew_286 3 rfl ?_
                    refine j_iload_n B eX1_crew_288 1 rfl ?_
                    refine stM_2 B eX1_crew_289 ho (fun w19 ho => ?_)
                    refine j_aload_n B eX1_crew_290 0 rfl ?_
                    refine gfM_3 B eX1_crew_291 ?_
                    refine j_iload B eX1_crew_294 3 rfl ?_
                    refine j_aload_n B eX1_crew_296 0 rfl ?_
                    refine gfM_25 B eX1_crew_297 ?_
                    refine j_iload B eX1_crew_300 3 rfl ?_
                    refine ldM_25 B eX1_crew_302 ho (fun v20 ho => ?_)
                    refine stM_3 B eX1_crew_303 ho (fun w21 ho => ?_)
                    refine j_iinc (d := 1) (lv' := fun x22 => [(0, .ref (ad 99)), (1, .int a1), (4, .int x6), (6, .int x22)]) B eX1_crew_304 3 rfl (by decide) [1, 2, 3, 0] (by decide) (fun _ => rfl) ho (fun x22 ho => ?_)
                    refine j_goto B eX1_crew_307 ?_
                    exact hself14 _ _ ho
                  · refine j_goto B eX1_crew_279 ?_
                    refine j_iinc (d := 1) (lv' := fun x23 => [(0, .ref (ad 99)), (1, .int a1), (4, .int x6), (6, .int x23)]) B eX1_crew_304 3 rfl (by decide) [1, 2, 3, 0] (by decide) (fun _ => rfl) ho (fun x23 ho => ?_)
                    refine j_goto B eX1_crew_307 ?_
                    exact hself14 _ _ ho
                · refine j_icmp_ne B eX1_crew_246 ho (fun _ ho => ?_) (fun _ ho => ?_)
                  · exact hJ17 _ ho
                  · refine j_aload_n B eX1_crew_249 0 rfl ?_
                    refine gfM_3 B eX1_crew_250 ?_
                    refine j_iload B eX1_crew_253 3 rfl ?_
                    refine ldM_3 B eX1_crew_255 ho (fun v24 ho => ?_)
                    refine j_const B eX1_crew_256 ?_
                    refine j_icmp_eq B eX1_crew_258 ho (fun _ ho => ?_) (fun _ ho => ?_)
                    · exact hJ17 _ ho
                    · refine j_aload_n B eX1_crew_261 0 rfl ?_
                      refine gfM_2 B eX1_crew_262 ?_
                      refine j_iload B eX1_crew_265 3 rfl ?_
                      refine j_const B eX1_crew_267 ?_
                      refine stM_2 B eX1_crew_268 ho (fun w25 ho => ?_)
                      exact hJ17 _ ho
            · unfold sM_crew_L72 at ho
              refine fx3 (C := fun x26 x27 w28 => XJ p l e R s m args below meth c 0 0 Q A D vwCl (cellsM g ad) 8 w28 72 [(0, .ref (ad 99)), (1, .int a1), (2, .int a2), (4, .int x6), (5, .int x26), (6, .int x27)] []) (fun self29 hself29 x26 x27 w28 ho => ?_) FU _ _ _ ho
              refine j_iload B eX1_crew_72 5 rfl ?_
              refine j_aload_n B eX1_crew_74 0 rfl ?_
              refine gfM_10 B eX1_crew_75 ?_
              refine j_icmp_ge B eX1_crew_78 ho (fun _ ho => ?_) (fun _ ho => ?_)
              · refine j_lsub (lv' := [(0, .ref (ad 99)), (1, .int a1), (4, .int x6)]) [0, 1, 3] rfl ?_
                exact hJ10 _ ho
              · refine j_aload_n B eX1_crew_81 0 rfl ?_
                refine gfM_25 B eX1_crew_82 ?_
                refine j_iload B eX1_crew_85 5 rfl ?_
                refine j_const B eX1_crew_87 ?_
                refine stM_25 B eX1_crew_88 ho (fun w30 ho => ?_)
                refine j_const B eX1_crew_89 ?_
                refine j_istore (lv' := fun x31 => [(0, .ref (ad 99)), (1, .int a1), (2, .int a2), (4, .int x6), (5, .int x26), (6, .int x27), (7, .int x31)]) B eX1_crew_90 [1, 2, 3, 4, 5, 6, 0] (by decide) (fun _ => rfl) ho (fun x31 ho => ?_)
                refine jn1 (C := fun w32 => XJ p l e R s m args below meth c 0 0 Q A D vwCl (cellsM g ad) 8 w32 196 [(0, .ref (ad 99)), (1, .int a1), (2, .int a2), (4, .int x6), (5, .int x26), (6, .int x27)] []) ho (fun w32 ho => ?_) (fun J33 hJ33 ho => ?_)
                · refine j_aload_n B eX1_crew_196 0 rfl ?_
                  refine gfM_25 B eX1_crew_197 ?_
                  refine j_iload B eX1_crew_200 5 rfl ?_
                  refine ldM_25 B eX1_crew_202 ho (fun v34 ho => ?_)
                  refine j_if_lt B eX1_crew_203 ho (fun _ ho => ?_) (fun _ ho => ?_)
                  · refine j_iinc (d := 1) (lv' := fun x35 => [(0, .ref (ad 99)), (1, .int a1), (2, .int a2), (4, .int x6), (5, .int x26), (6, .int x35)]) B eX1_crew_220 5 rfl (by decide) [1, 2, 3, 4, 5, 0] (by decide) (fun _ => rfl) ho (fun x35 ho => ?_)
                    refine j_goto B eX1_crew_223 ?_
                    exact hself29 _ _ _ ho
                  · refine j_iload B eX1_crew_206 4 rfl ?_
                    refine j_const B eX1_crew_208 ?_
                    refine j_aload_n B eX1_crew_209 0 rfl ?_
                    refine gfM_25 B eX1_crew_210 ?_
                    refine j_iload B eX1_crew_213 5 rfl ?_
                    refine ldM_25 B eX1_crew_215 ho (fun v36 ho => ?_)
                    refine j_ishl B eX1_crew_216 ?_
                    refine j_ior B eX1_crew_217 ?_
                    refine j_istore (lv' := fun x37 => [(0, .ref (ad 99)), (1, .int a1), (2, .int a2), (4, .int x6), (5, .int x37), (6, .int x27)]) B eX1_crew_218 [1, 2, 3, 4, 0, 5] (by decide) (fun _ => rfl) ho (fun x37 ho => ?_)
                    refine j_iinc (d := 1) (lv' := fun x38 => [(0, .ref (ad 99)), (1, .int a1), (2, .int a2), (4, .int x6), (5, .int x37), (6, .int x38)]) B eX1_crew_220 5 rfl (by decide) [1, 2, 3, 4, 5, 0] (by decide) (fun _ => rfl) ho (fun x38 ho => ?_)
                    refine j_goto B eX1_crew_223 ?_
                    exact hself29 _ _ _ ho
                · unfold sM_crew_L92 at ho
                  refine fx2 (C := fun x39 w40 => XJ p l e R s m args below meth c 0 0 Q A D vwCl (cellsM g ad) 8 w40 92 [(0, .ref (ad 99)), (1, .int a1), (2, .int a2), (4, .int x6), (5, .int x26), (6, .int x27), (7, .int x39)] []) (fun self41 hself41 x39 w40 ho => ?_) FU _ _ ho
                  refine j_iload B eX1_crew_92 6 rfl ?_
                  refine j_aload_n B eX1_crew_94 0 rfl ?_
                  refine j_iload_n B eX1_crew_95 1 rfl ?_
                  refine j_callVi (As := [.int a1]) B hA (met_X1_seatsOf l D g ad w40 a1) NT_ok pkX1_seatsOf q955 0 rfl rfl rfl rfl hRm ⟨Nat.le_of_ble_eq_true rfl, Nat.le_of_ble_eq_true rfl⟩ rfl rfl (Nat.le_of_ble_eq_true rfl) ⟨Nat.zero_le _, Nat.zero_le _⟩ eX1_crew_96 ho (fun v42 ho => ?_)
                  refine j_icmp_ge B eX1_crew_99 ho (fun _ ho => ?_) (fun _ ho => ?_)
                  · refine j_lsub (lv' := [(0, .ref (ad 99)), (1, .int a1), (2, .int a2), (4, .int x6), (5, .int x26), (6, .int x27)]) [0, 1, 2, 3, 4, 5] rfl ?_
                    exact hJ33 _ ho
                  · refine j_aload_n B eX1_crew_102 0 rfl ?_
                    refine gfM_25 B eX1_crew_103 ?_
                    refine j_iload B eX1_crew_106 5 rfl ?_
                    refine ldM_25 B eX1_crew_108 ho (fun v43 ho => ?_)
                    refine j_if_ge B eX1_crew_109 ho (fun _ ho => ?_) (fun _ ho => ?_)
                    · refine j_lsub (lv' := [(0, .ref (ad 99)), (1, .int a1), (2, .int a2), (4, .int x6), (5, .int x26), (6, .int x27)]) [0, 1, 2, 3, 4, 5] rfl ?_
                      exact hJ33 _ ho
                    · refine j_aload_n B eX1_crew_112 0 rfl ?_
                      refine j_iload B eX1_crew_113 5 rfl ?_
                      refine j_iload_n B eX1_crew_115 1 rfl ?_
                      refine j_iload_n B eX1_crew_116 2 rfl ?_
                      refine j_callVi (As := [.int x27, .int a1, .int a2]) B hA (met_X1_canSit l D g ad w40 x27 a1 a2) NT_ok pkX1_canSit q1041 0 rfl rfl rfl rfl hRm ⟨Nat.le_of_ble_eq_true rfl, Nat.le_of_ble_eq_true rfl⟩ rfl rfl (Nat.le_of_ble_eq_true rfl) ⟨Nat.zero_le _, Nat.zero_le _⟩ eX1_crew_117 ho (fun v44 ho => ?_)
                      refine j_if_eq B eX1_crew_120 ho (fun _ ho => ?_) (fun _ ho => ?_)
                      · refine j_lsub (lv' := [(0, .ref (ad 99)), (1, .int a1), (2, .int a2), (4, .int x6), (5, .int x26), (6, .int x27)]) [0, 1, 2, 3, 4, 5] rfl ?_
                        exact hJ33 _ ho
                      · refine j_iload B eX1_crew_123 4 rfl ?_
                        refine j_iload B eX1_crew_125 6 rfl ?_
                        refine j_ishr B eX1_crew_127 ?_
                        refine j_const B eX1_crew_128 ?_
                        refine j_iand B eX1_crew_129 ?_
                        refine j_if_ne B eX1_crew_130 ho (fun _ ho => ?_) (fun _ ho => ?_)
                        · refine j_iinc (d := 1) (lv' := fun x45 => [(0, .ref (ad 99)), (1, .int a1), (2, .int a2), (4, .int x6), (5, .int x26), (6, .int x27), (7, .int x45)]) B eX1_crew_190 6 rfl (by decide) [1, 2, 3, 4, 5, 6, 0] (by decide) (fun _ => rfl) ho (fun x45 ho => ?_)
                          refine j_goto B eX1_crew_193 ?_
                          exact hself41 _ _ ho
                        · refine j_aload_n B eX1_crew_133 0 rfl ?_
                          refine j_iload B eX1_crew_134 5 rfl ?_
                          refine j_iload_n B eX1_crew_136 1 rfl ?_
                          refine j_iload B eX1_crew_137 6 rfl ?_
                          refine j_callVi (As := [.int x27, .int a1, .int x39]) B hA (met_X1_costOf l D g ad w40 x27 a1 x39) NT_ok pkX1_costOf q1049 0 rfl rfl rfl rfl hRm ⟨Nat.le_of_ble_eq_true rfl, Nat.le_of_ble_eq_true rfl⟩ rfl rfl (Nat.le_of_ble_eq_true rfl) ⟨Nat.zero_le _, Nat.zero_le _⟩ eX1_crew_139 ho (fun v46 ho => ?_)
                          refine j_aload_n B eX1_crew_142 0 rfl ?_
                          refine gfM_24 B eX1_crew_143 ?_
                          refine j_const B eX1_crew_146 ?_
                          refine j_iload B eX1_crew_149 5 rfl ?_
                          refine j_const B eX1_crew_151 ?_
                          refine j_iadd B eX1_crew_152 ?_
                          refine j_imul B eX1_crew_153 ?_
                          refine j_iload B eX1_crew_154 4 rfl ?_
                          refine j_const B eX1_crew_156 ?_
                          refine j_iload B eX1_crew_157 6 rfl ?_
                          refine j_ishl B eX1_crew_159 ?_
                          refine j_ior B eX1_crew_160 ?_
                          refine j_iadd B eX1_crew_161 ?_
                          refine ldM_24 B eX1_crew_162 ho (fun v47 ho => ?_)
                          refine j_iadd B eX1_crew_163 ?_
                          refine j_aload_n B eX1_crew_164 0 rfl ?_
                          refine gfM_24 B eX1_crew_165 ?_
                          refine j_const B eX1_crew_168 ?_
                          refine j_iload B eX1_crew_171 5 rfl ?_
                          refine j_imul B eX1_crew_173 ?_
                          refine j_iload B eX1_crew_174 4 rfl ?_
                          refine j_iadd B eX1_crew_176 ?_
                          refine ldM_24 B eX1_crew_177 ho (fun v48 ho => ?_)
                          refine j_icmp_ne B eX1_crew_178 ho (fun _ ho => ?_) (fun _ ho => ?_)
                          · refine j_iinc (d := 1) (lv' := fun x49 => [(0, .ref (ad 99)), (1, .int a1), (2, .int a2), (4, .int x6), (5, .int x26), (6, .int x27), (7, .int x49)]) B eX1_crew_190 6 rfl (by decide) [1, 2, 3, 4, 5, 6, 0] (by decide) (fun _ => rfl) ho (fun x49 ho => ?_)
                            refine j_goto B eX1_crew_193 ?_
                            exact hself41 _ _ ho
                          · refine j_aload_n B eX1_crew_181 0 rfl ?_
                            refine gfM_25 B eX1_crew_182 ?_
                            refine j_iload B eX1_crew_185 5 rfl ?_
                            refine j_iload B eX1_crew_187 6 rfl ?_
                            refine stM_25 B eX1_crew_189 ho (fun w50 ho => ?_)
                            refine j_iinc (d := 1) (lv' := fun x51 => [(0, .ref (ad 99)), (1, .int a1), (2, .int a2), (4, .int x6), (5, .int x26), (6, .int x27), (7, .int x51)]) B eX1_crew_190 6 rfl (by decide) [1, 2, 3, 4, 5, 6, 0] (by decide) (fun _ => rfl) ho (fun x51 ho => ?_)
                            refine j_goto B eX1_crew_193 ?_
                            exact hself41 _ _ ho
          · refine j_iload B eX1_crew_63 4 rfl ?_
            exact j_iretw B hr hQ eX1_crew_65 ho
        · refine j_const B eX1_crew_56 ?_
          exact j_iretw B hr hQ eX1_crew_58 ho
      · refine j_const B eX1_crew_32 ?_
        exact j_iretw B hr hQ eX1_crew_34 ho
  · refine j_const B eX1_crew_8 ?_
    exact j_iretw B hr hQ eX1_crew_9 ho
def sM_water (w : Wd) (a1 : Int32) (a2 : Int32) (a3 : Int32) : Option (Int32 × Wd) :=
  bd (sM_isIn (Int32.toInt64 a1) (0 : Int64) (29 : Int64)) fun v1 => if v1 = 0 then (some ((-1 : Int32), w)) else (bd (sM_isIn (Int32.toInt64 a2) (0 : Int64) (200 : Int64)) fun v2 => if v2 = 0 then (some ((-2 : Int32), w)) else (bd (sM_isIn (Int32.toInt64 a3) (0 : Int64) (12 : Int64)) fun v3 => if v3 = 0 then (some ((-2 : Int32), w)) else (rd (inb a1 30) (stG w 26 (Int32.toNatClampNeg a1) a2) fun w4 => rd (inb a1 30) (stG w4 27 (Int32.toNatClampNeg a1) a3) fun w5 => some ((0 : Int32), w5))))
abbrev rmX1_water : Room := { frames := 1, cells := 0, slots := 0, locals := 25 }
theorem pkX1_water : PkV yX1_water RX1 cX1_water 4 (some .int) 3 := ⟨q1058, q1059, q58, q1060, by decide +kernel⟩
set_option maxHeartbeats 4000000 in
theorem met_X1_water (l : Launch) (D : va_G) (g : Nat → ClassId) (ad : Nat → Nat) (w : Wd) (a1 : Int32) (a2 : Int32) (a3 : Int32) (sz : Nat) (r : Int32) (w' : Wd) (ho : sM_water w a1 a2 a3 = some (r, w')) : Met l yX1_water (ws_ yX1_water cX1_water 4 (some .int)) rmX1_water (va_Pc [.ref (ad 99), .int a1, .int a2, .int a3] (MPre D vwCl (tysG g) (cellsM g ad w) NT sz)) (QcI D vwCl (tysG g) (cellsM g ad w') r (va_A (cellsM g ad w) sz)) 0 0 (va_A (cellsM g ad w) sz) := by
  refine met_XJ (cw := cellsM g ad) (w := w) (cc := cX1_water) (lv := [(0, .ref (ad 99)), (1, .int a1), (2, .int a2), (3, .int a3)]) pnX1 _ (Nat.le_of_ble_eq_true rfl) rfl ?_
  intro p e s m args below meth c R Q A B hN hr hsz hA hmm hRm hQ hAe
  unfold sM_water at ho
  refine j_iload_n B eX1_water_0 1 rfl ?_
  refine j_i2l B eX1_water_1 ?_
  refine j_lconst (v := 0) B eX1_water_2 rfl ?_
  refine j_ldc2 B eX1_water_3 q1061 ?_
  refine j_callSi (As := [.long (Int32.toInt64 a1), .long (0 : Int64), .long (29 : Int64)]) B hA (met_X1_isIn l D _ _ _ (Int32.toInt64 a1) (0 : Int64) (29 : Int64)) NT_ok pkX1_isIn q925 rfl rfl hRm ⟨Nat.le_of_ble_eq_true rfl, Nat.le_of_ble_eq_true rfl⟩ rfl rfl (Nat.le_of_ble_eq_true rfl) ⟨Nat.zero_le _, Nat.zero_le _⟩ eX1_water_6 ho (fun v1 ho => ?_)
  refine j_if_ne B eX1_water_9 ho (fun _ ho => ?_) (fun _ ho => ?_)
  · refine j_iload_n B eX1_water_14 2 rfl ?_
    refine j_i2l B eX1_water_15 ?_
    refine j_lconst (v := 0) B eX1_water_16 rfl ?_
    refine j_ldc2 B eX1_water_17 q1062 ?_
    refine j_callSi (As := [.long (Int32.toInt64 a2), .long (0 : Int64), .long (200 : Int64)]) B hA (met_X1_isIn l D _ _ _ (Int32.toInt64 a2) (0 : Int64) (200 : Int64)) NT_ok pkX1_isIn q925 rfl rfl hRm ⟨Nat.le_of_ble_eq_true rfl, Nat.le_of_ble_eq_true rfl⟩ rfl rfl (Nat.le_of_ble_eq_true rfl) ⟨Nat.zero_le _, Nat.zero_le _⟩ eX1_water_20 ho (fun v2 ho => ?_)
    refine j_if_eq B eX1_water_23 ho (fun _ ho => ?_) (fun _ ho => ?_)
    · refine j_const B eX1_water_38 ?_
      exact j_iretw B hr hQ eX1_water_40 ho
    · refine j_iload_n B eX1_water_26 3 rfl ?_
      refine j_i2l B eX1_water_27 ?_
      refine j_lconst (v := 0) B eX1_water_28 rfl ?_
      refine j_ldc2 B eX1_water_29 q1063 ?_
      refine j_callSi (As := [.long (Int32.toInt64 a3), .long (0 : Int64), .long (12 : Int64)]) B hA (met_X1_isIn l D _ _ _ (Int32.toInt64 a3) (0 : Int64) (12 : Int64)) NT_ok pkX1_isIn q925 rfl rfl hRm ⟨Nat.le_of_ble_eq_true rfl, Nat.le_of_ble_eq_true rfl⟩ rfl rfl (Nat.le_of_ble_eq_true rfl) ⟨Nat.zero_le _, Nat.zero_le _⟩ eX1_water_32 ho (fun v3 ho => ?_)
      refine j_if_ne B eX1_water_35 ho (fun _ ho => ?_) (fun _ ho => ?_)
      · refine j_aload_n B eX1_water_41 0 rfl ?_
        refine gfM_26 B eX1_water_42 ?_
        refine j_iload_n B eX1_water_45 1 rfl ?_
        refine j_iload_n B eX1_water_46 2 rfl ?_
        refine stM_26 B eX1_water_47 ho (fun w4 ho => ?_)
        refine j_aload_n B eX1_water_48 0 rfl ?_
        refine gfM_27 B eX1_water_49 ?_
        refine j_iload_n B eX1_water_52 1 rfl ?_
        refine j_iload_n B eX1_water_53 3 rfl ?_
        refine stM_27 B eX1_water_54 ho (fun w5 ho => ?_)
        refine j_const B eX1_water_55 ?_
        exact j_iretw B hr hQ eX1_water_56 ho
      · refine j_const B eX1_water_38 ?_
        exact j_iretw B hr hQ eX1_water_40 ho
  · refine j_const B eX1_water_12 ?_
    exact j_iretw B hr hQ eX1_water_13 ho
def sM_feed_L34 (a1 : Int64) (J4 : Wd → Option (Int32 × Wd)) : Int32 → Wd → Option (Int32 × Wd) :=
  fx (fun _ _ => none) (fun self7 x5 w6 =>
    if x5 < 0 then (J4 w6) else (rd (inb (w6.2.1 90 29) 120) (stG w6 28 (Int32.toNatClampNeg (w6.2.1 90 29)) (Int64.toInt32 ((a1 >>> (Int32.toInt64 ((8 : Int32) * x5) &&& 63)) &&& (255 : Int64)))) fun w8 => nm (stG w8 90 29 ((w8.2.1 90 29) + (1 : Int32))) fun w9 => nm (x5 + (-1 : Int32)) fun x10 => self7 x10 w9)) FU
def sM_feed (w : Wd) (a1 : Int64) (a2 : Int32) : Option (Int32 × Wd) :=
  bd (sM_isIn (Int32.toInt64 a2) (1 : Int64) (8 : Int64)) fun v1 => if v1 = 0 then (some ((-2 : Int32), w)) else (if ((w.2.1 90 29) + a2) ≤ (120 : Int32) then (nm (a2 - (1 : Int32)) fun x2 => jn (fun w3 => some ((w3.2.1 90 29), w3)) fun J4 => sM_feed_L34 a1 J4 x2 w) else (some ((-4 : Int32), w)))
abbrev rmX1_feed : Room := { frames := 1, cells := 0, slots := 0, locals := 25 }
theorem pkX1_feed : PkV yX1_feed RX1 cX1_feed 5 (some .int) 2 := ⟨q1065, q1066, q58, q1067, by decide +kernel⟩
set_option maxHeartbeats 4000000 in
theorem met_X1_feed (l : Launch) (D : va_G) (g : Nat → ClassId) (ad : Nat → Nat) (w : Wd) (a1 : Int64) (a2 : Int32) (sz : Nat) (r : Int32) (w' : Wd) (ho : sM_feed w a1 a2 = some (r, w')) : Met l yX1_feed (ws_ yX1_feed cX1_feed 5 (some .int)) rmX1_feed (va_Pc [.ref (ad 99), .long a1, .int a2] (MPre D vwCl (tysG g) (cellsM g ad w) NT sz)) (QcI D vwCl (tysG g) (cellsM g ad w') r (va_A (cellsM g ad w) sz)) 0 0 (va_A (cellsM g ad w) sz) := by
  refine met_XJ (cw := cellsM g ad) (w := w) (cc := cX1_feed) (lv := [(0, .ref (ad 99)), (1, .long a1), (3, .int a2)]) pnX1 _ (Nat.le_of_ble_eq_true rfl) rfl ?_
  intro p e s m args below meth c R Q A B hN hr hsz hA hmm hRm hQ hAe
  unfold sM_feed at ho
  refine j_iload_n B eX1_feed_0 2 rfl ?_
  refine j_i2l B eX1_feed_1 ?_
  refine j_lconst (v := 1) B eX1_feed_2 rfl ?_
  refine j_ldc2 B eX1_feed_3 q1068 ?_
  refine j_callSi (As := [.long (Int32.toInt64 a2), .long (1 : Int64), .long (8 : Int64)]) B hA (met_X1_isIn l D _ _ _ (Int32.toInt64 a2) (1 : Int64) (8 : Int64)) NT_ok pkX1_isIn q925 rfl rfl hRm ⟨Nat.le_of_ble_eq_true rfl, Nat.le_of_ble_eq_true rfl⟩ rfl rfl (Nat.le_of_ble_eq_true rfl) ⟨Nat.zero_le _, Nat.zero_le _⟩ eX1_feed_6 ho (fun v1 ho => ?_)
  refine j_if_ne B eX1_feed_9 ho (fun _ ho => ?_) (fun _ ho => ?_)
  · refine j_aload_n B eX1_feed_15 0 rfl ?_
    refine gfM_29 B eX1_feed_16 ?_
    refine j_iload_n B eX1_feed_19 2 rfl ?_
    refine j_iadd B eX1_feed_20 ?_
    refine j_const B eX1_feed_21 ?_
    refine j_icmp_le B eX1_feed_23 ho (fun _ ho => ?_) (fun _ ho => ?_)
    · refine j_iload_n B eX1_feed_29 2 rfl ?_
      refine j_const B eX1_feed_30 ?_
      refine j_isub B eX1_feed_31 ?_
      refine j_istore (lv' := fun x2 => [(0, .ref (ad 99)), (1, .long a1), (4, .int x2)]) B eX1_feed_32 [1, 2, 0] (by decide) (fun _ => rfl) ho (fun x2 ho => ?_)
      refine jn1 (C := fun w3 => XJ p l e R s m args below meth c 0 0 Q A D vwCl (cellsM g ad) 5 w3 76 [(0, .ref (ad 99))] []) ho (fun w3 ho => ?_) (fun J4 hJ4 ho => ?_)
      · refine j_aload_n B eX1_feed_76 0 rfl ?_
        refine gfM_29 B eX1_feed_77 ?_
        exact j_iretw B hr hQ eX1_feed_80 ho
      · unfold sM_feed_L34 at ho
        refine fx2 (C := fun x5 w6 => XJ p l e R s m args below meth c 0 0 Q A D vwCl (cellsM g ad) 5 w6 34 [(0, .ref (ad 99)), (1, .long a1), (4, .int x5)] []) (fun self7 hself7 x5 w6 ho => ?_) FU _ _ ho
        refine j_iload B eX1_feed_34 2 rfl ?_
        refine j_if_lt B eX1_feed_36 ho (fun _ ho => ?_) (fun _ ho => ?_)
        · refine j_lsub (lv' := [(0, .ref (ad 99))]) [0] rfl ?_
          exact hJ4 _ ho
        · refine j_aload_n B eX1_feed_39 0 rfl ?_
          refine gfM_28 B eX1_feed_40 ?_
          refine j_aload_n B eX1_feed_43 0 rfl ?_
          refine gfM_29 B eX1_feed_44 ?_
          refine j_lload_n B eX1_feed_47 1 rfl ?_
          refine j_const B eX1_feed_48 ?_
          refine j_iload B eX1_feed_50 2 rfl ?_
          refine j_imul B eX1_feed_52 ?_
          refine j_lshr B eX1_feed_53 ?_
          refine j_ldc2 B eX1_feed_54 q1069 ?_
          refine j_land B eX1_feed_57 ?_
          refine j_l2i B eX1_feed_58 ?_
          refine stM_28 B eX1_feed_59 ho (fun w8 ho => ?_)
          refine j_aload_n B eX1_feed_60 0 rfl ?_
          refine j_dup B eX1_feed_61 rfl ?_
          refine gfM_29 B eX1_feed_62 ?_
          refine j_const B eX1_feed_65 ?_
          refine j_iadd B eX1_feed_66 ?_
          refine pfM_29 B eX1_feed_67 ho (fun w9 ho => ?_)
          refine j_iinc (d := -1) (lv' := fun x10 => [(0, .ref (ad 99)), (1, .long a1), (4, .int x10)]) B eX1_feed_70 2 rfl (by decide) [1, 2, 0] (by decide) (fun _ => rfl) ho (fun x10 ho => ?_)
          refine j_goto B eX1_feed_73 ?_
          exact hself7 _ _ ho
    · refine j_const B eX1_feed_26 ?_
      exact j_iretw B hr hQ eX1_feed_28 ho
  · refine j_const B eX1_feed_12 ?_
    exact j_iretw B hr hQ eX1_feed_14 ho
def sM_spelled (a1 : Int32) (a2 : Int32) (a3 : Int32) (a4 : Int32) (a5 : Int32) (a6 : Int32) : Option (Int64) :=
  nm (0 : Int64) fun x1 => jn (fun z2 => nm z2 fun x4 => jn (fun z5 => nm z5 fun x7 => jn (fun z8 => nm z8 fun x10 => jn (fun z11 => nm z11 fun x13 => jn (fun z14 => nm z14 fun x16 => if a6 ≤ 0 then (some x16) else (some ((x16 <<< (Int32.toInt64 (5 : Int32) &&& 63)) ||| (Int32.toInt64 a6)))) fun J15 => if a5 ≤ 0 then (J15 x13) else (J15 ((x13 <<< (Int32.toInt64 (5 : Int32) &&& 63)) ||| (Int32.toInt64 a5)))) fun J12 => if a4 ≤ 0 then (J12 x10) else (J12 ((x10 <<< (Int32.toInt64 (5 : Int32) &&& 63)) ||| (Int32.toInt64 a4)))) fun J9 => if a3 ≤ 0 then (J9 x7) else (J9 ((x7 <<< (Int32.toInt64 (5 : Int32) &&& 63)) ||| (Int32.toInt64 a3)))) fun J6 => if a2 ≤ 0 then (J6 x4) else (J6 ((x4 <<< (Int32.toInt64 (5 : Int32) &&& 63)) ||| (Int32.toInt64 a2)))) fun J3 => if a1 ≤ 0 then (J3 x1) else (J3 ((x1 <<< (Int32.toInt64 (5 : Int32) &&& 63)) ||| (Int32.toInt64 a1)))
abbrev rmX1_spelled : Room := { frames := 0, cells := 0, slots := 0, locals := 0 }
theorem pkX1_spelled : PkS yX1_spelled cX1_spelled 8 (some .long) 6 := ⟨q1093, q58, q1094, by decide +kernel⟩
set_option maxHeartbeats 4000000 in
theorem met_X1_spelled (l : Launch) (D : va_G) (tys : List (ClassId × FieldType)) (ws : va_W) (NX : Nat → State → Prop) (a1 : Int32) (a2 : Int32) (a3 : Int32) (a4 : Int32) (a5 : Int32) (a6 : Int32) (sz : Nat) (r : Int64) (ho : sM_spelled a1 a2 a3 a4 a5 a6 = some r) : Met l yX1_spelled (ws_ yX1_spelled cX1_spelled 8 (some .long)) rmX1_spelled (va_Pc [.int a1, .int a2, .int a3, .int a4, .int a5, .int a6] (MPre D vwCl tys ws NX sz)) (QcL D vwCl tys ws r (va_A ws sz)) 0 0 (va_A ws sz) := by
  refine met_XJ (cw := fun (_ : Unit) => ws) (w := ()) (cc := cX1_spelled) (lv := [(0, .int a1), (1, .int a2), (2, .int a3), (3, .int a4), (4, .int a5), (5, .int a6)]) pnX1 _ (Nat.le_of_ble_eq_true rfl) rfl ?_
  intro p e s m args below meth c R Q A B hN hr hsz hA hmm hRm hQ hAe
  unfold sM_spelled at ho
  refine j_lconst (v := 0) B eX1_spelled_0 rfl ?_
  refine j_lstore (lv' := fun x1 => [(0, .int a1), (1, .int a2), (2, .int a3), (3, .int a4), (4, .int a5), (5, .int a6), (6, .long x1)]) B eX1_spelled_1 [1, 2, 3, 4, 5, 6, 0] (by decide) (fun _ => rfl) ho (fun x1 ho => ?_)
  refine j_iload_n B eX1_spelled_3 0 rfl ?_
  refine jn1 (C := fun z2 => XJ p l e R s m args below meth c 0 0 Q A D vwCl (fun (_ : Unit) => ws) 8 () 19 [(1, .int a2), (2, .int a3), (3, .int a4), (4, .int a5), (5, .int a6)] [.long z2]) ho (fun z2 ho => ?_) (fun J3 hJ3 ho => ?_)
  · refine j_lstore (lv' := fun x4 => [(1, .int a2), (2, .int a3), (3, .int a4), (4, .int a5), (5, .int a6), (6, .long x4)]) B eX1_spelled_19 [1, 2, 3, 4, 5, 0] (by decide) (fun _ => rfl) ho (fun x4 ho => ?_)
    refine j_iload_n B eX1_spelled_21 0 rfl ?_
    refine jn1 (C := fun z5 => XJ p l e R s m args below meth c 0 0 Q A D vwCl (fun (_ : Unit) => ws) 8 () 37 [(2, .int a3), (3, .int a4), (4, .int a5), (5, .int a6)] [.long z5]) ho (fun z5 ho => ?_) (fun J6 hJ6 ho => ?_)
    · refine j_lstore (lv' := fun x7 => [(2, .int a3), (3, .int a4), (4, .int a5), (5, .int a6), (6, .long x7)]) B eX1_spelled_37 [1, 2, 3, 4, 0] (by decide) (fun _ => rfl) ho (fun x7 ho => ?_)
      refine j_iload_n B eX1_spelled_39 0 rfl ?_
      refine jn1 (C := fun z8 => XJ p l e R s m args below meth c 0 0 Q A D vwCl (fun (_ : Unit) => ws) 8 () 55 [(3, .int a4), (4, .int a5), (5, .int a6)] [.long z8]) ho (fun z8 ho => ?_) (fun J9 hJ9 ho => ?_)
      · refine j_lstore (lv' := fun x10 => [(3, .int a4), (4, .int a5), (5, .int a6), (6, .long x10)]) B eX1_spelled_55 [1, 2, 3, 0] (by decide) (fun _ => rfl) ho (fun x10 ho => ?_)
        refine j_iload_n B eX1_spelled_57 0 rfl ?_
        refine jn1 (C := fun z11 => XJ p l e R s m args below meth c 0 0 Q A D vwCl (fun (_ : Unit) => ws) 8 () 73 [(4, .int a5), (5, .int a6)] [.long z11]) ho (fun z11 ho => ?_) (fun J12 hJ12 ho => ?_)
        · refine j_lstore (lv' := fun x13 => [(4, .int a5), (5, .int a6), (6, .long x13)]) B eX1_spelled_73 [1, 2, 0] (by decide) (fun _ => rfl) ho (fun x13 ho => ?_)
          refine j_iload B eX1_spelled_75 0 rfl ?_
          refine jn1 (C := fun z14 => XJ p l e R s m args below meth c 0 0 Q A D vwCl (fun (_ : Unit) => ws) 8 () 93 [(5, .int a6)] [.long z14]) ho (fun z14 ho => ?_) (fun J15 hJ15 ho => ?_)
          · refine j_lstore (lv' := fun x16 => [(5, .int a6), (6, .long x16)]) B eX1_spelled_93 [1, 0] (by decide) (fun _ => rfl) ho (fun x16 ho => ?_)
            refine j_iload B eX1_spelled_95 0 rfl ?_
            refine j_if_le B eX1_spelled_97 ho (fun _ ho => ?_) (fun _ ho => ?_)
            · refine j_lload B eX1_spelled_111 1 rfl ?_
              exact j_lret B hr hQ eX1_spelled_113 ho
            · refine j_lload B eX1_spelled_100 1 rfl ?_
              refine j_const B eX1_spelled_102 ?_
              refine j_lshl B eX1_spelled_103 ?_
              refine j_iload B eX1_spelled_104 0 rfl ?_
              refine j_i2l B eX1_spelled_106 ?_
              refine j_lor B eX1_spelled_107 ?_
              refine j_goto B eX1_spelled_108 ?_
              exact j_lret B hr hQ eX1_spelled_113 ho
          · refine j_if_le B eX1_spelled_77 ho (fun _ ho => ?_) (fun _ ho => ?_)
            · refine j_lload B eX1_spelled_91 2 rfl ?_
              refine j_lsub (lv' := [(5, .int a6)]) [1] rfl ?_
              exact hJ15 _ ho
            · refine j_lload B eX1_spelled_80 2 rfl ?_
              refine j_const B eX1_spelled_82 ?_
              refine j_lshl B eX1_spelled_83 ?_
              refine j_iload B eX1_spelled_84 0 rfl ?_
              refine j_i2l B eX1_spelled_86 ?_
              refine j_lor B eX1_spelled_87 ?_
              refine j_goto B eX1_spelled_88 ?_
              refine j_lsub (lv' := [(5, .int a6)]) [1] rfl ?_
              exact hJ15 _ ho
        · refine j_if_le B eX1_spelled_58 ho (fun _ ho => ?_) (fun _ ho => ?_)
          · refine j_lload B eX1_spelled_71 3 rfl ?_
            refine j_lsub (lv' := [(4, .int a5), (5, .int a6)]) [1, 2] rfl ?_
            exact hJ12 _ ho
          · refine j_lload B eX1_spelled_61 3 rfl ?_
            refine j_const B eX1_spelled_63 ?_
            refine j_lshl B eX1_spelled_64 ?_
            refine j_iload_n B eX1_spelled_65 0 rfl ?_
            refine j_i2l B eX1_spelled_66 ?_
            refine j_lor B eX1_spelled_67 ?_
            refine j_goto B eX1_spelled_68 ?_
            refine j_lsub (lv' := [(4, .int a5), (5, .int a6)]) [1, 2] rfl ?_
            exact hJ12 _ ho
      · refine j_if_le B eX1_spelled_40 ho (fun _ ho => ?_) (fun _ ho => ?_)
        · refine j_lload B eX1_spelled_53 4 rfl ?_
          refine j_lsub (lv' := [(3, .int a4), (4, .int a5), (5, .int a6)]) [1, 2, 3] rfl ?_
          exact hJ9 _ ho
        · refine j_lload B eX1_spelled_43 4 rfl ?_
          refine j_const B eX1_spelled_45 ?_
          refine j_lshl B eX1_spelled_46 ?_
          refine j_iload_n B eX1_spelled_47 0 rfl ?_
          refine j_i2l B eX1_spelled_48 ?_
          refine j_lor B eX1_spelled_49 ?_
          refine j_goto B eX1_spelled_50 ?_
          refine j_lsub (lv' := [(3, .int a4), (4, .int a5), (5, .int a6)]) [1, 2, 3] rfl ?_
          exact hJ9 _ ho
    · refine j_if_le B eX1_spelled_22 ho (fun _ ho => ?_) (fun _ ho => ?_)
      · refine j_lload B eX1_spelled_35 5 rfl ?_
        refine j_lsub (lv' := [(2, .int a3), (3, .int a4), (4, .int a5), (5, .int a6)]) [1, 2, 3, 4] rfl ?_
        exact hJ6 _ ho
      · refine j_lload B eX1_spelled_25 5 rfl ?_
        refine j_const B eX1_spelled_27 ?_
        refine j_lshl B eX1_spelled_28 ?_
        refine j_iload_n B eX1_spelled_29 0 rfl ?_
        refine j_i2l B eX1_spelled_30 ?_
        refine j_lor B eX1_spelled_31 ?_
        refine j_goto B eX1_spelled_32 ?_
        refine j_lsub (lv' := [(2, .int a3), (3, .int a4), (4, .int a5), (5, .int a6)]) [1, 2, 3, 4] rfl ?_
        exact hJ6 _ ho
  · refine j_if_le B eX1_spelled_4 ho (fun _ ho => ?_) (fun _ ho => ?_)
    · refine j_lload B eX1_spelled_17 6 rfl ?_
      refine j_lsub (lv' := [(1, .int a2), (2, .int a3), (3, .int a4), (4, .int a5), (5, .int a6)]) [1, 2, 3, 4, 5] rfl ?_
      exact hJ3 _ ho
    · refine j_lload B eX1_spelled_7 6 rfl ?_
      refine j_const B eX1_spelled_9 ?_
      refine j_lshl B eX1_spelled_10 ?_
      refine j_iload_n B eX1_spelled_11 0 rfl ?_
      refine j_i2l B eX1_spelled_12 ?_
      refine j_lor B eX1_spelled_13 ?_
      refine j_goto B eX1_spelled_14 ?_
      refine j_lsub (lv' := [(1, .int a2), (2, .int a3), (3, .int a4), (4, .int a5), (5, .int a6)]) [1, 2, 3, 4, 5] rfl ?_
      exact hJ3 _ ho
def sM_wordOf (a1 : Int32) : Option (Int64) :=
  if a1 = (0 : Int32) then (bd (sM_spelled (16 : Int32) (1 : Int32) (9 : Int32) (18 : Int32) (0 : Int32) (0 : Int32)) fun v1 => some v1) else (if a1 = (1 : Int32) then (bd (sM_spelled (6 : Int32) (15 : Int32) (21 : Int32) (18 : Int32) (0 : Int32) (0 : Int32)) fun v2 => some v2) else (if a1 = (2 : Int32) then (bd (sM_spelled (5 : Int32) (9 : Int32) (7 : Int32) (8 : Int32) (20 : Int32) (0 : Int32)) fun v3 => some v3) else (if a1 = (3 : Int32) then (bd (sM_spelled (19 : Int32) (9 : Int32) (14 : Int32) (7 : Int32) (12 : Int32) (5 : Int32)) fun v4 => some v4) else (if a1 = (4 : Int32) then (bd (sM_spelled (17 : Int32) (21 : Int32) (1 : Int32) (4 : Int32) (0 : Int32) (0 : Int32)) fun v5 => some v5) else (if a1 = (5 : Int32) then (some (27 : Int64)) else (if a1 = (6 : Int32) then (bd (sM_spelled (12 : Int32) (5 : Int32) (20 : Int32) (0 : Int32) (0 : Int32) (0 : Int32)) fun v6 => some v6) else (if a1 = (7 : Int32) then (bd (sM_spelled (2 : Int32) (1 : Int32) (18 : Int32) (0 : Int32) (0 : Int32) (0 : Int32)) fun v7 => some v7) else (if a1 = (8 : Int32) then (bd (sM_spelled (19 : Int32) (20 : Int32) (18 : Int32) (5 : Int32) (1 : Int32) (13 : Int32)) fun v8 => some v8) else (if a1 = (9 : Int32) then (bd (sM_spelled (23 : Int32) (9 : Int32) (14 : Int32) (4 : Int32) (0 : Int32) (0 : Int32)) fun v9 => some v9) else (if a1 = (10 : Int32) then (bd (sM_spelled (8 : Int32) (15 : Int32) (21 : Int32) (18 : Int32) (0 : Int32) (0 : Int32)) fun v10 => some v10) else (if a1 = (11 : Int32) then (bd (sM_spelled (13 : Int32) (15 : Int32) (14 : Int32) (20 : Int32) (8 : Int32) (0 : Int32)) fun v11 => some v11) else (if a1 = (12 : Int32) then (bd (sM_spelled (19 : Int32) (9 : Int32) (26 : Int32) (5 : Int32) (0 : Int32) (0 : Int32)) fun v12 => some v12) else (if a1 = (13 : Int32) then (bd (sM_spelled (25 : Int32) (15 : Int32) (21 : Int32) (14 : Int32) (7 : Int32) (0 : Int32)) fun v13 => some v13) else (if a1 = (14 : Int32) then (bd (sM_spelled (9 : Int32) (3 : Int32) (5 : Int32) (0 : Int32) (0 : Int32) (0 : Int32)) fun v14 => some v14) else (bd (sM_spelled (9 : Int32) (6 : Int32) (0 : Int32) (0 : Int32) (0 : Int32) (0 : Int32)) fun v15 => some v15)))))))))))))))
abbrev rmX1_wordOf : Room := { frames := 1, cells := 0, slots := 0, locals := 27 }
theorem pkX1_wordOf : PkS yX1_wordOf cX1_wordOf 1 (some .long) 1 := ⟨q1090, q58, q1091, by decide +kernel⟩
set_option maxHeartbeats 4000000 in
theorem met_X1_wordOf (l : Launch) (D : va_G) (tys : List (ClassId × FieldType)) (ws : va_W) (NX : Nat → State → Prop) (a1 : Int32) (sz : Nat) (r : Int64) (ho : sM_wordOf a1 = some r) : Met l yX1_wordOf (ws_ yX1_wordOf cX1_wordOf 1 (some .long)) rmX1_wordOf (va_Pc [.int a1] (MPre D vwCl tys ws NX sz)) (QcL D vwCl tys ws r (va_A ws sz)) 0 0 (va_A ws sz) := by
  refine met_XJ (cw := fun (_ : Unit) => ws) (w := ()) (cc := cX1_wordOf) (lv := [(0, .int a1)]) pnX1 _ (Nat.le_of_ble_eq_true rfl) rfl ?_
  intro p e s m args below meth c R Q A B hN hr hsz hA hmm hRm hQ hAe
  unfold sM_wordOf at ho
  refine j_iload_n B eX1_wordOf_0 0 rfl ?_
  rcases sw_e ho with ⟨hs0, ho⟩ | ⟨hs0, ho⟩
  · refine j_tswIn (tgt := 76) B eX1_wordOf_1 0 hs0 (by decide) (by decide) rfl (by decide) ?_
    refine j_const B eX1_wordOf_76 ?_
    refine j_const B eX1_wordOf_78 ?_
    refine j_const B eX1_wordOf_79 ?_
    refine j_const B eX1_wordOf_81 ?_
    refine j_const B eX1_wordOf_83 ?_
    refine j_const B eX1_wordOf_84 ?_
    refine j_callSl (As := [.int (16 : Int32), .int (1 : Int32), .int (9 : Int32), .int (18 : Int32), .int (0 : Int32), .int (0 : Int32)]) B hA (met_X1_spelled l D _ _ _ (16 : Int32) (1 : Int32) (9 : Int32) (18 : Int32) (0 : Int32) (0 : Int32)) NT_ok pkX1_spelled q1092 rfl rfl hRm ⟨Nat.le_of_ble_eq_true rfl, Nat.le_of_ble_eq_true rfl⟩ rfl rfl (Nat.le_of_ble_eq_true rfl) ⟨Nat.zero_le _, Nat.zero_le _⟩ eX1_wordOf_85 ho (fun v1 ho => ?_)
    exact j_lret B hr hQ eX1_wordOf_88 ho
  · rcases sw_e ho with ⟨hs1, ho⟩ | ⟨hs1, ho⟩
    · refine j_tswIn (tgt := 89) B eX1_wordOf_1 1 hs1 (by decide) (by decide) rfl (by decide) ?_
      refine j_const B eX1_wordOf_89 ?_
      refine j_const B eX1_wordOf_91 ?_
      refine j_const B eX1_wordOf_93 ?_
      refine j_const B eX1_wordOf_95 ?_
      refine j_const B eX1_wordOf_97 ?_
      refine j_const B eX1_wordOf_98 ?_
      refine j_callSl (As := [.int (6 : Int32), .int (15 : Int32), .int (21 : Int32), .int (18 : Int32), .int (0 : Int32), .int (0 : Int32)]) B hA (met_X1_spelled l D _ _ _ (6 : Int32) (15 : Int32) (21 : Int32) (18 : Int32) (0 : Int32) (0 : Int32)) NT_ok pkX1_spelled q1092 rfl rfl hRm ⟨Nat.le_of_ble_eq_true rfl, Nat.le_of_ble_eq_true rfl⟩ rfl rfl (Nat.le_of_ble_eq_true rfl) ⟨Nat.zero_le _, Nat.zero_le _⟩ eX1_wordOf_99 ho (fun v2 ho => ?_)
      exact j_lret B hr hQ eX1_wordOf_102 ho
    · rcases sw_e ho with ⟨hs2, ho⟩ | ⟨hs2, ho⟩
      · refine j_tswIn (tgt := 103) B eX1_wordOf_1 2 hs2 (by decide) (by decide) rfl (by decide) ?_
        refine j_const B eX1_wordOf_103 ?_
        refine j_const B eX1_wordOf_104 ?_
        refine j_const B eX1_wordOf_106 ?_
        refine j_const B eX1_wordOf_108 ?_
        refine j_const B eX1_wordOf_110 ?_
        refine j_const B eX1_wordOf_112 ?_
        refine j_callSl (As := [.int (5 : Int32), .int (9 : Int32), .int (7 : Int32), .int (8 : Int32), .int (20 : Int32), .int (0 : Int32)]) B hA (met_X1_spelled l D _ _ _ (5 : Int32) (9 : Int32) (7 : Int32) (8 : Int32) (20 : Int32) (0 : Int32)) NT_ok pkX1_spelled q1092 rfl rfl hRm ⟨Nat.le_of_ble_eq_true rfl, Nat.le_of_ble_eq_true rfl⟩ rfl rfl (Nat.le_of_ble_eq_true rfl) ⟨Nat.zero_le _, Nat.zero_le _⟩ eX1_wordOf_113 ho (fun v3 ho => ?_)
        exact j_lret B hr hQ eX1_wordOf_116 ho
      · rcases sw_e ho with ⟨hs3, ho⟩ | ⟨hs3, ho⟩
        · refine j_tswIn (tgt := 117) B eX1_wordOf_1 3 hs3 (by decide) (by decide) rfl (by decide) ?_
          refine j_const B eX1_wordOf_117 ?_
          refine j_const B eX1_wordOf_119 ?_
          refine j_const B eX1_wordOf_121 ?_
          refine j_const B eX1_wordOf_123 ?_
          refine j_const B eX1_wordOf_125 ?_
          refine j_const B eX1_wordOf_127 ?_
          refine j_callSl (As := [.int (19 : Int32), .int (9 : Int32), .int (14 : Int32), .int (7 : Int32), .int (12 : Int32), .int (5 : Int32)]) B hA (met_X1_spelled l D _ _ _ (19 : Int32) (9 : Int32) (14 : Int32) (7 : Int32) (12 : Int32) (5 : Int32)) NT_ok pkX1_spelled q1092 rfl rfl hRm ⟨Nat.le_of_ble_eq_true rfl, Nat.le_of_ble_eq_true rfl⟩ rfl rfl (Nat.le_of_ble_eq_true rfl) ⟨Nat.zero_le _, Nat.zero_le _⟩ eX1_wordOf_128 ho (fun v4 ho => ?_)
          exact j_lret B hr hQ eX1_wordOf_131 ho
        · rcases sw_e ho with ⟨hs4, ho⟩ | ⟨hs4, ho⟩
          · refine j_tswIn (tgt := 132) B eX1_wordOf_1 4 hs4 (by decide) (by decide) rfl (by decide) ?_
            refine j_const B eX1_wordOf_132 ?_
            refine j_const B eX1_wordOf_134 ?_
            refine j_const B eX1_wordOf_136 ?_
            refine j_const B eX1_wordOf_137 ?_
            refine j_const B eX1_wordOf_138 ?_
            refine j_const B eX1_wordOf_139 ?_
            refine j_callSl (As := [.int (17 : Int32), .int (21 : Int32), .int (1 : Int32), .int (4 : Int32), .int (0 : Int32), .int (0 : Int32)]) B hA (met_X1_spelled l D _ _ _ (17 : Int32) (21 : Int32) (1 : Int32) (4 : Int32) (0 : Int32) (0 : Int32)) NT_ok pkX1_spelled q1092 rfl rfl hRm ⟨Nat.le_of_ble_eq_true rfl, Nat.le_of_ble_eq_true rfl⟩ rfl rfl (Nat.le_of_ble_eq_true rfl) ⟨Nat.zero_le _, Nat.zero_le _⟩ eX1_wordOf_140 ho (fun v5 ho => ?_)
            exact j_lret B hr hQ eX1_wordOf_143 ho
          · rcases sw_e ho with ⟨hs5, ho⟩ | ⟨hs5, ho⟩
            · refine j_tswIn (tgt := 144) B eX1_wordOf_1 5 hs5 (by decide) (by decide) rfl (by decide) ?_
              refine j_ldc2 B eX1_wordOf_144 q1095 ?_
              exact j_lret B hr hQ eX1_wordOf_147 ho
            · rcases sw_e ho with ⟨hs6, ho⟩ | ⟨hs6, ho⟩
              · refine j_tswIn (tgt := 148) B eX1_wordOf_1 6 hs6 (by decide) (by decide) rfl (by decide) ?_
                refine j_const B eX1_wordOf_148 ?_
                refine j_const B eX1_wordOf_150 ?_
                refine j_const B eX1_wordOf_151 ?_
                refine j_const B eX1_wordOf_153 ?_
                refine j_const B eX1_wordOf_154 ?_
                refine j_const B eX1_wordOf_155 ?_
                refine j_callSl (As := [.int (12 : Int32), .int (5 : Int32), .int (20 : Int32), .int (0 : Int32), .int (0 : Int32), .int (0 : Int32)]) B hA (met_X1_spelled l D _ _ _ (12 : Int32) (5 : Int32) (20 : Int32) (0 : Int32) (0 : Int32) (0 : Int32)) NT_ok pkX1_spelled q1092 rfl rfl hRm ⟨Nat.le_of_ble_eq_true rfl, Nat.le_of_ble_eq_true rfl⟩ rfl rfl (Nat.le_of_ble_eq_true rfl) ⟨Nat.zero_le _, Nat.zero_le _⟩ eX1_wordOf_156 ho (fun v6 ho => ?_)
                exact j_lret B hr hQ eX1_wordOf_159 ho
              · rcases sw_e ho with ⟨hs7, ho⟩ | ⟨hs7, ho⟩
                · refine j_tswIn (tgt := 160) B eX1_wordOf_1 7 hs7 (by decide) (by decide) rfl (by decide) ?_
                  refine j_const B eX1_wordOf_160 ?_
                  refine j_const B eX1_wordOf_161 ?_
                  refine j_const B eX1_wordOf_162 ?_
                  refine j_const B eX1_wordOf_164 ?_
                  refine j_const B eX1_wordOf_165 ?_
                  refine j_const B eX1_wordOf_166 ?_
                  refine j_callSl (As := [.int (2 : Int32), .int (1 : Int32), .int (18 : Int32), .int (0 : Int32), .int (0 : Int32), .int (0 : Int32)]) B hA (met_X1_spelled l D _ _ _ (2 : Int32) (1 : Int32) (18 : Int32) (0 : Int32) (0 : Int32) (0 : Int32)) NT_ok pkX1_spelled q1092 rfl rfl hRm ⟨Nat.le_of_ble_eq_true rfl, Nat.le_of_ble_eq_true rfl⟩ rfl rfl (Nat.le_of_ble_eq_true rfl) ⟨Nat.zero_le _, Nat.zero_le _⟩ eX1_wordOf_167 ho (fun v7 ho => ?_)
                  exact j_lret B hr hQ eX1_wordOf_170 ho
                · rcases sw_e ho with ⟨hs8, ho⟩ | ⟨hs8, ho⟩
                  · refine j_tswIn (tgt := 171) B eX1_wordOf_1 8 hs8 (by decide) (by decide) rfl (by decide) ?_
                    refine j_const B eX1_wordOf_171 ?_
                    refine j_const B eX1_wordOf_173 ?_
                    refine j_const B eX1_wordOf_175 ?_
                    refine j_const B eX1_wordOf_177 ?_
                    refine j_const B eX1_wordOf_178 ?_
                    refine j_const B eX1_wordOf_179 ?_
                    refine j_callSl (As := [.int (19 : Int32), .int (20 : Int32), .int (18 : Int32), .int (5 : Int32), .int (1 : Int32), .int (13 : Int32)]) B hA (met_X1_spelled l D _ _ _ (19 : Int32) (20 : Int32) (18 : Int32) (5 : Int32) (1 : Int32) (13 : Int32)) NT_ok pkX1_spelled q1092 rfl rfl hRm ⟨Nat.le_of_ble_eq_true rfl, Nat.le_of_ble_eq_true rfl⟩ rfl rfl (Nat.le_of_ble_eq_true rfl) ⟨Nat.zero_le _, Nat.zero_le _⟩ eX1_wordOf_181 ho (fun v8 ho => ?_)
                    exact j_lret B hr hQ eX1_wordOf_184 ho
                  · rcases sw_e ho with ⟨hs9, ho⟩ | ⟨hs9, ho⟩
                    · refine j_tswIn (tgt := 185) B eX1_wordOf_1 9 hs9 (by decide) (by decide) rfl (by decide) ?_
                      refine j_const B eX1_wordOf_185 ?_
                      refine j_const B eX1_wordOf_187 ?_
                      refine j_const B eX1_wordOf_189 ?_
                      refine j_const B eX1_wordOf_191 ?_
                      refine j_const B eX1_wordOf_192 ?_
                      refine j_const B eX1_wordOf_193 ?_
                      refine j_callSl (As := [.int (23 : Int32), .int (9 : Int32), .int (14 : Int32), .int (4 : Int32), .int (0 : Int32), .int (0 : Int32)]) B hA (met_X1_spelled l D _ _ _ (23 : Int32) (9 : Int32) (14 : Int32) (4 : Int32) (0 : Int32) (0 : Int32)) NT_ok pkX1_spelled q1092 rfl rfl hRm ⟨Nat.le_of_ble_eq_true rfl, Nat.le_of_ble_eq_true rfl⟩ rfl rfl (Nat.le_of_ble_eq_true rfl) ⟨Nat.zero_le _, Nat.zero_le _⟩ eX1_wordOf_194 ho (fun v9 ho => ?_)
                      exact j_lret B hr hQ eX1_wordOf_197 ho
                    · rcases sw_e ho with ⟨hs10, ho⟩ | ⟨hs10, ho⟩
                      · refine j_tswIn (tgt := 198) B eX1_wordOf_1 10 hs10 (by decide) (by decide) rfl (by decide) ?_
                        refine j_const B eX1_wordOf_198 ?_
                        refine j_const B eX1_wordOf_200 ?_
                        refine j_const B eX1_wordOf_202 ?_
                        refine j_const B eX1_wordOf_204 ?_
                        refine j_const B eX1_wordOf_206 ?_
                        refine j_const B eX1_wordOf_207 ?_
                        refine j_callSl (As := [.int (8 : Int32), .int (15 : Int32), .int (21 : Int32), .int (18 : Int32), .int (0 : Int32), .int (0 : Int32)]) B hA (met_X1_spelled l D _ _ _ (8 : Int32) (15 : Int32) (21 : Int32) (18 : Int32) (0 : Int32) (0 : Int32)) NT_ok pkX1_spelled q1092 rfl rfl hRm ⟨Nat.le_of_ble_eq_true rfl, Nat.le_of_ble_eq_true rfl⟩ rfl rfl (Nat.le_of_ble_eq_true rfl) ⟨Nat.zero_le _, Nat.zero_le _⟩ eX1_wordOf_208 ho (fun v10 ho => ?_)
                        exact j_lret B hr hQ eX1_wordOf_211 ho
                      · rcases sw_e ho with ⟨hs11, ho⟩ | ⟨hs11, ho⟩
                        · refine j_tswIn (tgt := 212) B eX1_wordOf_1 11 hs11 (by decide) (by decide) rfl (by decide) ?_
                          refine j_const B eX1_wordOf_212 ?_
                          refine j_const B eX1_wordOf_214 ?_
                          refine j_const B eX1_wordOf_216 ?_
                          refine j_const B eX1_wordOf_218 ?_
                          refine j_const B eX1_wordOf_220 ?_
                          refine j_const B eX1_wordOf_222 ?_
                          refine j_callSl (As := [.int (13 : Int32), .int (15 : Int32), .int (14 : Int32), .int (20 : Int32), .int (8 : Int32), .int (0 : Int32)]) B hA (met_X1_spelled l D _ _ _ (13 : Int32) (15 : Int32) (14 : Int32) (20 : Int32) (8 : Int32) (0 : Int32)) NT_ok pkX1_spelled q1092 rfl rfl hRm ⟨Nat.le_of_ble_eq_true rfl, Nat.le_of_ble_eq_true rfl⟩ rfl rfl (Nat.le_of_ble_eq_true rfl) ⟨Nat.zero_le _, Nat.zero_le _⟩ eX1_wordOf_223 ho (fun v11 ho => ?_)
                          exact j_lret B hr hQ eX1_wordOf_226 ho
                        · rcases sw_e ho with ⟨hs12, ho⟩ | ⟨hs12, ho⟩
                          · refine j_tswIn (tgt := 227) B eX1_wordOf_1 12 hs12 (by decide) (by decide) rfl (by decide) ?_
                            refine j_const B eX1_wordOf_227 ?_
                            refine j_const B eX1_wordOf_229 ?_
                            refine j_const B eX1_wordOf_231 ?_
                            refine j_const B eX1_wordOf_233 ?_
                            refine j_const B eX1_wordOf_234 ?_
                            refine j_const B eX1_wordOf_235 ?_
                            refine j_callSl (As := [.int (19 : Int32), .int (9 : Int32), .int (26 : Int32), .int (5 : Int32), .int (0 : Int32), .int (0 : Int32)]) B hA (met_X1_spelled l D _ _ _ (19 : Int32) (9 : Int32) (26 : Int32) (5 : Int32) (0 : Int32) (0 : Int32)) NT_ok pkX1_spelled q1092 rfl rfl hRm ⟨Nat.le_of_ble_eq_true rfl, Nat.le_of_ble_eq_true rfl⟩ rfl rfl (Nat.le_of_ble_eq_true rfl) ⟨Nat.zero_le _, Nat.zero_le _⟩ eX1_wordOf_236 ho (fun v12 ho => ?_)
                            exact j_lret B hr hQ eX1_wordOf_239 ho
                          · rcases sw_e ho with ⟨hs13, ho⟩ | ⟨hs13, ho⟩
                            · refine j_tswIn (tgt := 240) B eX1_wordOf_1 13 hs13 (by decide) (by decide) rfl (by decide) ?_
                              refine j_const B eX1_wordOf_240 ?_
                              refine j_const B eX1_wordOf_242 ?_
                              refine j_const B eX1_wordOf_244 ?_
                              refine j_const B eX1_wordOf_246 ?_
                              refine j_const B eX1_wordOf_248 ?_
                              refine j_const B eX1_wordOf_250 ?_
                              refine j_callSl (As := [.int (25 : Int32), .int (15 : Int32), .int (21 : Int32), .int (14 : Int32), .int (7 : Int32), .int (0 : Int32)]) B hA (met_X1_spelled l D _ _ _ (25 : Int32) (15 : Int32) (21 : Int32) (14 : Int32) (7 : Int32) (0 : Int32)) NT_ok pkX1_spelled q1092 rfl rfl hRm ⟨Nat.le_of_ble_eq_true rfl, Nat.le_of_ble_eq_true rfl⟩ rfl rfl (Nat.le_of_ble_eq_true rfl) ⟨Nat.zero_le _, Nat.zero_le _⟩ eX1_wordOf_251 ho (fun v13 ho => ?_)
                              exact j_lret B hr hQ eX1_wordOf_254 ho
                            · rcases sw_e ho with ⟨hs14, ho⟩ | ⟨hs14, ho⟩
                              · refine j_tswIn (tgt := 255) B eX1_wordOf_1 14 hs14 (by decide) (by decide) rfl (by decide) ?_
                                refine j_const B eX1_wordOf_255 ?_
                                refine j_const B eX1_wordOf_257 ?_
                                refine j_const B eX1_wordOf_258 ?_
                                refine j_const B eX1_wordOf_259 ?_
                                refine j_const B eX1_wordOf_260 ?_
                                refine j_const B eX1_wordOf_261 ?_
                                refine j_callSl (As := [.int (9 : Int32), .int (3 : Int32), .int (5 : Int32), .int (0 : Int32), .int (0 : Int32), .int (0 : Int32)]) B hA (met_X1_spelled l D _ _ _ (9 : Int32) (3 : Int32) (5 : Int32) (0 : Int32) (0 : Int32) (0 : Int32)) NT_ok pkX1_spelled q1092 rfl rfl hRm ⟨Nat.le_of_ble_eq_true rfl, Nat.le_of_ble_eq_true rfl⟩ rfl rfl (Nat.le_of_ble_eq_true rfl) ⟨Nat.zero_le _, Nat.zero_le _⟩ eX1_wordOf_262 ho (fun v14 ho => ?_)
                                exact j_lret B hr hQ eX1_wordOf_265 ho
                              · refine j_tswOut (tgt := 266) B eX1_wordOf_1 (by have a0 := lv_neT hs0 (a := 0) (by decide); have a1 := lv_neT hs1 (a := 1) (by decide); have a2 := lv_neT hs2 (a := 2) (by decide); have a3 := lv_neT hs3 (a := 3) (by decide); have a4 := lv_neT hs4 (a := 4) (by decide); have a5 := lv_neT hs5 (a := 5) (by decide); have a6 := lv_neT hs6 (a := 6) (by decide); have a7 := lv_neT hs7 (a := 7) (by decide); have a8 := lv_neT hs8 (a := 8) (by decide); have a9 := lv_neT hs9 (a := 9) (by decide); have a10 := lv_neT hs10 (a := 10) (by decide); have a11 := lv_neT hs11 (a := 11) (by decide); have a12 := lv_neT hs12 (a := 12) (by decide); have a13 := lv_neT hs13 (a := 13) (by decide); have a14 := lv_neT hs14 (a := 14) (by decide); omega) (by decide) ?_
                                refine j_const B eX1_wordOf_266 ?_
                                refine j_const B eX1_wordOf_268 ?_
                                refine j_const B eX1_wordOf_270 ?_
                                refine j_const B eX1_wordOf_271 ?_
                                refine j_const B eX1_wordOf_272 ?_
                                refine j_const B eX1_wordOf_273 ?_
                                refine j_callSl (As := [.int (9 : Int32), .int (6 : Int32), .int (0 : Int32), .int (0 : Int32), .int (0 : Int32), .int (0 : Int32)]) B hA (met_X1_spelled l D _ _ _ (9 : Int32) (6 : Int32) (0 : Int32) (0 : Int32) (0 : Int32) (0 : Int32)) NT_ok pkX1_spelled q1092 rfl rfl hRm ⟨Nat.le_of_ble_eq_true rfl, Nat.le_of_ble_eq_true rfl⟩ rfl rfl (Nat.le_of_ble_eq_true rfl) ⟨Nat.zero_le _, Nat.zero_le _⟩ eX1_wordOf_274 ho (fun v15 ho => ?_)
                                exact j_lret B hr hQ eX1_wordOf_277 ho
