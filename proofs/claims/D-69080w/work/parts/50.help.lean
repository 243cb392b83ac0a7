/-! helps for contracts: how one goes on behind a call; bits -/
set_option maxRecDepth 100000
theorem fa_1_1 (x : Int) : (bif Nat.blt 1 (nSt 1) && (fcOf 1 1 != 0) then fcOf 1 1 else x) = 2 := rfl
theorem fb_1_1 (x : Int) : (bif Nat.blt 1 (nSt 2) && (fcOf 1 1 != 0) then fcOf 1 1 else x) = 2 := rfl
theorem fa_1_2 (x : Int) : (bif Nat.blt 1 (nSt 1) && (fcOf 1 2 != 0) then fcOf 1 2 else x) = 4 := rfl
theorem fb_1_2 (x : Int) : (bif Nat.blt 1 (nSt 2) && (fcOf 1 2 != 0) then fcOf 1 2 else x) = 4 := rfl
theorem fa_1_3 (x : Int) : (bif Nat.blt 1 (nSt 1) && (fcOf 1 3 != 0) then fcOf 1 3 else x) = 9 := rfl
theorem fb_1_3 (x : Int) : (bif Nat.blt 1 (nSt 2) && (fcOf 1 3 != 0) then fcOf 1 3 else x) = 9 := rfl
theorem fa_1_4 (x : Int) : (bif Nat.blt 1 (nSt 1) && (fcOf 1 4 != 0) then fcOf 1 4 else x) = 14 := rfl
theorem fb_1_4 (x : Int) : (bif Nat.blt 1 (nSt 2) && (fcOf 1 4 != 0) then fcOf 1 4 else x) = 14 := rfl
theorem fa_1_5 (x : Int) : (bif Nat.blt 1 (nSt 1) && (fcOf 1 5 != 0) then fcOf 1 5 else x) = 17 := rfl
theorem fb_1_5 (x : Int) : (bif Nat.blt 1 (nSt 2) && (fcOf 1 5 != 0) then fcOf 1 5 else x) = 17 := rfl
theorem fa_1_6 (x : Int) : (bif Nat.blt 1 (nSt 1) && (fcOf 1 6 != 0) then fcOf 1 6 else x) = 53 := rfl
theorem fb_1_6 (x : Int) : (bif Nat.blt 1 (nSt 2) && (fcOf 1 6 != 0) then fcOf 1 6 else x) = 53 := rfl
theorem fa_1_7 (x : Int) : (bif Nat.blt 1 (nSt 1) && (fcOf 1 7 != 0) then fcOf 1 7 else x) = 56 := rfl
theorem fb_1_7 (x : Int) : (bif Nat.blt 1 (nSt 2) && (fcOf 1 7 != 0) then fcOf 1 7 else x) = 56 := rfl
theorem fa_1_8 (x : Int) : (bif Nat.blt 1 (nSt 1) && (fcOf 1 8 != 0) then fcOf 1 8 else x) = 61 := rfl
theorem fb_1_8 (x : Int) : (bif Nat.blt 1 (nSt 2) && (fcOf 1 8 != 0) then fcOf 1 8 else x) = 61 := rfl
theorem fa_1_9 (x : Int) : (bif Nat.blt 1 (nSt 1) && (fcOf 1 9 != 0) then fcOf 1 9 else x) = 74 := rfl
theorem fb_1_9 (x : Int) : (bif Nat.blt 1 (nSt 2) && (fcOf 1 9 != 0) then fcOf 1 9 else x) = 74 := rfl
theorem fa_1_10 (x : Int) : (bif Nat.blt 1 (nSt 1) && (fcOf 1 10 != 0) then fcOf 1 10 else x) = 96 := rfl
theorem fb_1_10 (x : Int) : (bif Nat.blt 1 (nSt 2) && (fcOf 1 10 != 0) then fcOf 1 10 else x) = 96 := rfl
theorem fa_1_11 (x : Int) : (bif Nat.blt 1 (nSt 1) && (fcOf 1 11 != 0) then fcOf 1 11 else x) = 101 := rfl
theorem fb_1_11 (x : Int) : (bif Nat.blt 1 (nSt 2) && (fcOf 1 11 != 0) then fcOf 1 11 else x) = 101 := rfl
theorem fa_1_12 (x : Int) : (bif Nat.blt 1 (nSt 1) && (fcOf 1 12 != 0) then fcOf 1 12 else x) = 106 := rfl
theorem fb_1_12 (x : Int) : (bif Nat.blt 1 (nSt 2) && (fcOf 1 12 != 0) then fcOf 1 12 else x) = 106 := rfl
theorem fa_1_13 (x : Int) : (bif Nat.blt 1 (nSt 1) && (fcOf 1 13 != 0) then fcOf 1 13 else x) = 113 := rfl
theorem fb_1_13 (x : Int) : (bif Nat.blt 1 (nSt 2) && (fcOf 1 13 != 0) then fcOf 1 13 else x) = 113 := rfl
theorem fa_4_1 (x : Int) : (bif Nat.blt 4 (nSt 1) && (fcOf 4 1 != 0) then fcOf 4 1 else x) = 5 := rfl
theorem fb_4_1 (x : Int) : (bif Nat.blt 4 (nSt 2) && (fcOf 4 1 != 0) then fcOf 4 1 else x) = 5 := rfl
theorem fa_14_1 (x : Int) : (bif Nat.blt 14 (nSt 1) && (fcOf 14 1 != 0) then fcOf 14 1 else x) = 4 := rfl
theorem fb_14_1 (x : Int) : (bif Nat.blt 14 (nSt 2) && (fcOf 14 1 != 0) then fcOf 14 1 else x) = 4 := rfl
theorem fa_14_2 (x : Int) : (bif Nat.blt 14 (nSt 1) && (fcOf 14 2 != 0) then fcOf 14 2 else x) = 15 := rfl
theorem fb_14_2 (x : Int) : (bif Nat.blt 14 (nSt 2) && (fcOf 14 2 != 0) then fcOf 14 2 else x) = 15 := rfl
theorem fa_17_1 (x : Int) : (bif Nat.blt 17 (nSt 1) && (fcOf 17 1 != 0) then fcOf 17 1 else x) = 4 := rfl
theorem fb_17_1 (x : Int) : (bif Nat.blt 17 (nSt 2) && (fcOf 17 1 != 0) then fcOf 17 1 else x) = 4 := rfl
theorem fa_56_1 (x : Int) : (bif Nat.blt 56 (nSt 1) && (fcOf 56 1 != 0) then fcOf 56 1 else x) = 17 := rfl
theorem fb_56_1 (x : Int) : (bif Nat.blt 56 (nSt 2) && (fcOf 56 1 != 0) then fcOf 56 1 else x) = 17 := rfl
theorem fa_56_2 (x : Int) : (bif Nat.blt 56 (nSt 1) && (fcOf 56 2 != 0) then fcOf 56 2 else x) = 53 := rfl
theorem fb_56_2 (x : Int) : (bif Nat.blt 56 (nSt 2) && (fcOf 56 2 != 0) then fcOf 56 2 else x) = 53 := rfl
theorem fa_61_1 (x : Int) : (bif Nat.blt 61 (nSt 1) && (fcOf 61 1 != 0) then fcOf 61 1 else x) = 17 := rfl
theorem fb_61_1 (x : Int) : (bif Nat.blt 61 (nSt 2) && (fcOf 61 1 != 0) then fcOf 61 1 else x) = 17 := rfl
theorem fa_61_2 (x : Int) : (bif Nat.blt 61 (nSt 1) && (fcOf 61 2 != 0) then fcOf 61 2 else x) = 53 := rfl
theorem fb_61_2 (x : Int) : (bif Nat.blt 61 (nSt 2) && (fcOf 61 2 != 0) then fcOf 61 2 else x) = 53 := rfl
theorem fa_61_3 (x : Int) : (bif Nat.blt 61 (nSt 1) && (fcOf 61 3 != 0) then fcOf 61 3 else x) = 56 := rfl
theorem fb_61_3 (x : Int) : (bif Nat.blt 61 (nSt 2) && (fcOf 61 3 != 0) then fcOf 61 3 else x) = 56 := rfl
theorem fa_74_1 (x : Int) : (bif Nat.blt 74 (nSt 1) && (fcOf 74 1 != 0) then fcOf 74 1 else x) = 17 := rfl
theorem fb_74_1 (x : Int) : (bif Nat.blt 74 (nSt 2) && (fcOf 74 1 != 0) then fcOf 74 1 else x) = 17 := rfl
theorem fa_74_2 (x : Int) : (bif Nat.blt 74 (nSt 1) && (fcOf 74 2 != 0) then fcOf 74 2 else x) = 61 := rfl
theorem fb_74_2 (x : Int) : (bif Nat.blt 74 (nSt 2) && (fcOf 74 2 != 0) then fcOf 74 2 else x) = 61 := rfl
theorem fa_74_3 (x : Int) : (bif Nat.blt 74 (nSt 1) && (fcOf 74 3 != 0) then fcOf 74 3 else x) = 75 := rfl
theorem fb_74_3 (x : Int) : (bif Nat.blt 74 (nSt 2) && (fcOf 74 3 != 0) then fcOf 74 3 else x) = 75 := rfl
theorem fa_74_4 (x : Int) : (bif Nat.blt 74 (nSt 1) && (fcOf 74 4 != 0) then fcOf 74 4 else x) = 79 := rfl
theorem fb_74_4 (x : Int) : (bif Nat.blt 74 (nSt 2) && (fcOf 74 4 != 0) then fcOf 74 4 else x) = 79 := rfl
theorem fa_79_1 (x : Int) : (bif Nat.blt 79 (nSt 1) && (fcOf 79 1 != 0) then fcOf 79 1 else x) = 82 := rfl
theorem fb_79_1 (x : Int) : (bif Nat.blt 79 (nSt 2) && (fcOf 79 1 != 0) then fcOf 79 1 else x) = 82 := rfl
theorem fa_96_1 (x : Int) : (bif Nat.blt 96 (nSt 1) && (fcOf 96 1 != 0) then fcOf 96 1 else x) = 17 := rfl
theorem fb_96_1 (x : Int) : (bif Nat.blt 96 (nSt 2) && (fcOf 96 1 != 0) then fcOf 96 1 else x) = 17 := rfl
theorem fa_101_1 (x : Int) : (bif Nat.blt 101 (nSt 1) && (fcOf 101 1 != 0) then fcOf 101 1 else x) = 17 := rfl
theorem fb_101_1 (x : Int) : (bif Nat.blt 101 (nSt 2) && (fcOf 101 1 != 0) then fcOf 101 1 else x) = 17 := rfl
theorem fa_106_1 (x : Int) : (bif Nat.blt 106 (nSt 1) && (fcOf 106 1 != 0) then fcOf 106 1 else x) = 17 := rfl
theorem fb_106_1 (x : Int) : (bif Nat.blt 106 (nSt 2) && (fcOf 106 1 != 0) then fcOf 106 1 else x) = 17 := rfl
theorem fa_106_2 (x : Int) : (bif Nat.blt 106 (nSt 1) && (fcOf 106 2 != 0) then fcOf 106 2 else x) = 74 := rfl
theorem fb_106_2 (x : Int) : (bif Nat.blt 106 (nSt 2) && (fcOf 106 2 != 0) then fcOf 106 2 else x) = 74 := rfl
theorem fa_106_3 (x : Int) : (bif Nat.blt 106 (nSt 1) && (fcOf 106 3 != 0) then fcOf 106 3 else x) = 107 := rfl
theorem fb_106_3 (x : Int) : (bif Nat.blt 106 (nSt 2) && (fcOf 106 3 != 0) then fcOf 106 3 else x) = 107 := rfl
theorem fa_106_4 (x : Int) : (bif Nat.blt 106 (nSt 1) && (fcOf 106 4 != 0) then fcOf 106 4 else x) = 109 := rfl
theorem fb_106_4 (x : Int) : (bif Nat.blt 106 (nSt 2) && (fcOf 106 4 != 0) then fcOf 106 4 else x) = 109 := rfl
theorem fa_113_1 (x : Int) : (bif Nat.blt 113 (nSt 1) && (fcOf 113 1 != 0) then fcOf 113 1 else x) = 17 := rfl
theorem fb_113_1 (x : Int) : (bif Nat.blt 113 (nSt 2) && (fcOf 113 1 != 0) then fcOf 113 1 else x) = 17 := rfl
theorem fa_113_2 (x : Int) : (bif Nat.blt 113 (nSt 1) && (fcOf 113 2 != 0) then fcOf 113 2 else x) = 74 := rfl
theorem fb_113_2 (x : Int) : (bif Nat.blt 113 (nSt 2) && (fcOf 113 2 != 0) then fcOf 113 2 else x) = 74 := rfl
theorem fa_113_3 (x : Int) : (bif Nat.blt 113 (nSt 1) && (fcOf 113 3 != 0) then fcOf 113 3 else x) = 114 := rfl
theorem fb_113_3 (x : Int) : (bif Nat.blt 113 (nSt 2) && (fcOf 113 3 != 0) then fcOf 113 3 else x) = 114 := rfl
theorem fa_113_4 (x : Int) : (bif Nat.blt 113 (nSt 1) && (fcOf 113 4 != 0) then fcOf 113 4 else x) = 116 := rfl
theorem fb_113_4 (x : Int) : (bif Nat.blt 113 (nSt 2) && (fcOf 113 4 != 0) then fcOf 113 4 else x) = 116 := rfl
theorem fb_120_64 (x : Int) : (bif Nat.blt 120 (nSt 2) && (fcOf 120 64 != 0) then fcOf 120 64 else x) = 160 := rfl
theorem fb_160_44 (x : Int) : (bif Nat.blt 160 (nSt 2) && (fcOf 160 44 != 0) then fcOf 160 44 else x) = 182 := rfl
theorem fb_160_45 (x : Int) : (bif Nat.blt 160 (nSt 2) && (fcOf 160 45 != 0) then fcOf 160 45 else x) = 187 := rfl
theorem fb_160_54 (x : Int) : (bif Nat.blt 160 (nSt 2) && (fcOf 160 54 != 0) then fcOf 160 54 else x) = 198 := rfl
theorem fb_208_1 (x : Int) : (bif Nat.blt 208 (nSt 2) && (fcOf 208 1 != 0) then fcOf 208 1 else x) = 160 := rfl
theorem fb_215_1 (x : Int) : (bif Nat.blt 215 (nSt 2) && (fcOf 215 1 != 0) then fcOf 215 1 else x) = 160 := rfl
theorem qc_14_3 : qcOf 14 3 = 9 := rfl
theorem qc_15_2 : qcOf 15 2 = 2 := rfl
theorem qc_17_2 : qcOf 17 2 = 9 := rfl
theorem sb_2_1 : spB 2 1 = 2560 := rfl
theorem sb_4_2 : spB 4 2 = 2048 := rfl
theorem sb_4_4 : spB 4 4 = 4096 := rfl
theorem sb_5_1 : spB 5 1 = 2560 := rfl
theorem sb_9_1 : spB 9 1 = 4096 := rfl
theorem sb_9_2 : spB 9 2 = 4096 := rfl
theorem sb_9_3 : spB 9 3 = 4096 := rfl
theorem sb_9_4 : spB 9 4 = 4096 := rfl
theorem sb_15_1 : spB 15 1 = 52 := rfl
theorem sb_17_3 : spB 17 3 = 66600 := rfl
theorem sb_17_4 : spB 17 4 = 66600 := rfl
theorem sb_17_5 : spB 17 5 = 66600 := rfl
theorem sb_17_6 : spB 17 6 = 66600 := rfl
theorem sb_17_7 : spB 17 7 = 66600 := rfl
theorem sb_17_10 : spB 17 10 = 512 := rfl
theorem sb_17_11 : spB 17 11 = 512 := rfl
theorem sb_17_12 : spB 17 12 = 512 := rfl
theorem sb_17_13 : spB 17 13 = 512 := rfl
theorem sb_17_14 : spB 17 14 = 512 := rfl
theorem sb_17_15 : spB 17 15 = 512 := rfl
theorem sb_17_16 : spB 17 16 = 512 := rfl
theorem sb_17_17 : spB 17 17 = 512 := rfl
theorem sb_17_19 : spB 17 19 = 5 := rfl
theorem sb_17_21 : spB 17 21 = 4096 := rfl
theorem sb_17_22 : spB 17 22 = 4096 := rfl
theorem sb_17_23 : spB 17 23 = 1024 := rfl
theorem sb_17_24 : spB 17 24 = 1024 := rfl
theorem sb_17_25 : spB 17 25 = 1024 := rfl
theorem sb_17_26 : spB 17 26 = 1024 := rfl
theorem sb_17_27 : spB 17 27 = 1024 := rfl
theorem sb_17_28 : spB 17 28 = 1024 := rfl
theorem sb_17_29 : spB 17 29 = 1024 := rfl
theorem sb_17_31 : spB 17 31 = 16 := rfl
theorem sb_17_33 : spB 17 33 = 2048 := rfl
theorem sb_17_34 : spB 17 34 = 2048 := rfl
theorem sb_17_38 : spB 17 38 = 2048 := rfl
theorem sb_17_39 : spB 17 39 = 2048 := rfl
theorem sb_17_40 : spB 17 40 = 2048 := rfl
theorem sb_17_43 : spB 17 43 = 512 := rfl
theorem sb_17_44 : spB 17 44 = 512 := rfl
theorem sb_17_45 : spB 17 45 = 512 := rfl
theorem sb_17_46 : spB 17 46 = 512 := rfl
theorem sb_17_48 : spB 17 48 = 8192 := rfl
theorem sb_17_50 : spB 17 50 = 17000 := rfl
theorem sb_53_1 : spB 53 1 = 16 := rfl
theorem sb_53_2 : spB 53 2 = 256 := rfl
theorem sb_56_3 : spB 56 3 = 66600 := rfl
theorem sb_56_4 : spB 56 4 = 66600 := rfl
theorem sb_56_5 : spB 56 5 = 66600 := rfl
theorem sb_56_6 : spB 56 6 = 512 := rfl
theorem sb_61_4 : spB 61 4 = 512 := rfl
theorem sb_61_5 : spB 61 5 = 512 := rfl
theorem sb_61_8 : spB 61 8 = 1024 := rfl
theorem sb_61_9 : spB 61 9 = 512 := rfl
theorem sb_61_10 : spB 61 10 = 512 := rfl
theorem sb_61_11 : spB 61 11 = 1024 := rfl
theorem sb_61_12 : spB 61 12 = 1024 := rfl
theorem sb_61_13 : spB 61 13 = 1024 := rfl
theorem sb_61_14 : spB 61 14 = 1024 := rfl
theorem sb_61_16 : spB 61 16 = 61500 := rfl
theorem sb_61_18 : spB 61 18 = 1024 := rfl
theorem sb_61_22 : spB 61 22 = 25000 := rfl
theorem sb_74_5 : spB 74 5 = 530000 := rfl
theorem sb_74_7 : spB 74 7 = 66600 := rfl
theorem sb_74_8 : spB 74 8 = 512 := rfl
theorem sb_74_9 : spB 74 9 = 512 := rfl
theorem sb_74_10 : spB 74 10 = 512 := rfl
theorem sb_74_11 : spB 74 11 = 1024 := rfl
theorem sb_74_12 : spB 74 12 = 1024 := rfl
theorem sb_74_14 : spB 74 14 = 61500 := rfl
theorem sb_74_15 : spB 74 15 = 1024 := rfl
theorem sb_74_16 : spB 74 16 = 4096 := rfl
theorem sb_75_2 : spB 75 2 = 17200 := rfl
theorem sb_75_3 : spB 75 3 = 17200 := rfl
theorem sb_75_4 : spB 75 4 = 16384 := rfl
theorem sb_79_2 : spB 79 2 = 17200 := rfl
theorem sb_79_3 : spB 79 3 = 17200 := rfl
theorem sb_82_2 : spB 82 2 = 70400 := rfl
theorem sb_82_3 : spB 82 3 = 70400 := rfl
theorem sb_82_4 : spB 82 4 = 65536 := rfl
theorem sb_96_2 : spB 96 2 = 66600 := rfl
theorem sb_96_3 : spB 96 3 = 512 := rfl
theorem sb_96_4 : spB 96 4 = 512 := rfl
theorem sb_96_5 : spB 96 5 = 1024 := rfl
theorem sb_101_2 : spB 101 2 = 66600 := rfl
theorem sb_101_3 : spB 101 3 = 512 := rfl
theorem sb_101_4 : spB 101 4 = 512 := rfl
theorem sb_101_5 : spB 101 5 = 1024 := rfl
theorem sb_106_5 : spB 106 5 = 512 := rfl
theorem sb_106_6 : spB 106 6 = 512 := rfl
theorem sb_107_1 : spB 107 1 = 17200 := rfl
theorem sb_109_1 : spB 109 1 = 70400 := rfl
theorem sb_113_5 : spB 113 5 = 512 := rfl
theorem sb_113_6 : spB 113 6 = 512 := rfl
theorem sb_114_1 : spB 114 1 = 17200 := rfl
theorem sb_116_1 : spB 116 1 = 64 := rfl
theorem sb_120_1 : spB 120 1 = 19 := rfl
theorem sb_120_2 : spB 120 2 = 8000 := rfl
theorem sb_120_5 : spB 120 5 = 8002 := rfl
theorem sb_120_6 : spB 120 6 = 8002 := rfl
theorem sb_120_7 : spB 120 7 = 8002 := rfl
theorem sb_120_12 : spB 120 12 = 26000 := rfl
theorem sb_120_13 : spB 120 13 = 26000 := rfl
theorem sb_120_14 : spB 120 14 = 26000 := rfl
theorem sb_120_15 : spB 120 15 = 26000 := rfl
theorem sb_120_16 : spB 120 16 = 26000 := rfl
theorem sb_120_17 : spB 120 17 = 26000 := rfl
theorem sb_120_19 : spB 120 19 = 26000 := rfl
theorem sb_120_20 : spB 120 20 = 13000 := rfl
theorem sb_120_21 : spB 120 21 = 13000 := rfl
theorem sb_120_22 : spB 120 22 = 13000 := rfl
theorem sb_120_23 : spB 120 23 = 13000 := rfl
theorem sb_120_24 : spB 120 24 = 13000 := rfl
theorem sb_120_26 : spB 120 26 = 4096 := rfl
theorem sb_120_27 : spB 120 27 = 2048 := rfl
theorem sb_120_29 : spB 120 29 = 2048 := rfl
theorem sb_120_30 : spB 120 30 = 2048 := rfl
theorem sb_120_31 : spB 120 31 = 2048 := rfl
theorem sb_120_32 : spB 120 32 = 256 := rfl
theorem sb_120_33 : spB 120 33 = 256 := rfl
theorem sb_120_34 : spB 120 34 = 256 := rfl
theorem sb_120_35 : spB 120 35 = 256 := rfl
theorem sb_120_36 : spB 120 36 = 256 := rfl
theorem sb_120_37 : spB 120 37 = 256 := rfl
theorem sb_120_47 : spB 120 47 = 1024 := rfl
theorem sb_120_48 : spB 120 48 = 1024 := rfl
theorem sb_120_49 : spB 120 49 = 1024 := rfl
theorem sb_120_51 : spB 120 51 = 8192 := rfl
theorem sb_120_53 : spB 120 53 = 8192 := rfl
theorem sb_120_54 : spB 120 54 = 8192 := rfl
theorem sb_120_56 : spB 120 56 = 4096 := rfl
theorem sb_120_57 : spB 120 57 = 4096 := rfl
theorem sb_120_62 : spB 120 62 = 2 := rfl
theorem sb_120_63 : spB 120 63 = 256 := rfl
theorem sb_120_65 : spB 120 65 = 2 := rfl
theorem sb_160_5 : spB 160 5 = 2048 := rfl
theorem sb_160_6 : spB 160 6 = 4096 := rfl
theorem sb_160_7 : spB 160 7 = 4096 := rfl
theorem sb_160_8 : spB 160 8 = 4096 := rfl
theorem sb_160_11 : spB 160 11 = 176 := rfl
theorem sb_160_13 : spB 160 13 = 176 := rfl
theorem sb_160_17 : spB 160 17 = 256 := rfl
theorem sb_160_19 : spB 160 19 = 1024 := rfl
theorem sb_160_20 : spB 160 20 = 1024 := rfl
theorem sb_160_21 : spB 160 21 = 1024 := rfl
theorem sb_160_23 : spB 160 23 = 8192 := rfl
theorem sb_160_25 : spB 160 25 = 8192 := rfl
theorem sb_160_26 : spB 160 26 = 8192 := rfl
theorem sb_160_27 : spB 160 27 = 8192 := rfl
theorem sb_160_28 : spB 160 28 = 8192 := rfl
theorem sb_160_29 : spB 160 29 = 8192 := rfl
theorem sb_160_32 : spB 160 32 = 176 := rfl
theorem sb_160_33 : spB 160 33 = 176 := rfl
theorem sb_160_34 : spB 160 34 = 176 := rfl
theorem sb_160_42 : spB 160 42 = 176 := rfl
theorem sb_160_43 : spB 160 43 = 176 := rfl
theorem sb_160_46 : spB 160 46 = 176 := rfl
theorem sb_160_47 : spB 160 47 = 176 := rfl
theorem sb_160_48 : spB 160 48 = 16384 := rfl
theorem sb_160_49 : spB 160 49 = 16384 := rfl
theorem sb_160_50 : spB 160 50 = 4096 := rfl
theorem sb_160_52 : spB 160 52 = 65536 := rfl
theorem sb_160_55 : spB 160 55 = 4096 := rfl
theorem sb_160_57 : spB 160 57 = 65536 := rfl
theorem sb_160_58 : spB 160 58 = 65536 := rfl
theorem sb_160_60 : spB 160 60 = 4096 := rfl
theorem sb_182_1 : spB 182 1 = 16384 := rfl
theorem sb_182_2 : spB 182 2 = 16384 := rfl
theorem sb_182_6 : spB 182 6 = 32768 := rfl
theorem sb_182_7 : spB 182 7 = 16384 := rfl
theorem sb_187_1 : spB 187 1 = 65536 := rfl
theorem sb_187_2 : spB 187 2 = 65536 := rfl
theorem sb_187_6 : spB 187 6 = 131072 := rfl
theorem sb_187_7 : spB 187 7 = 65536 := rfl
theorem sb_198_1 : spB 198 1 = 8192 := rfl
theorem sb_198_3 : spB 198 3 = 176 := rfl
theorem sb_198_4 : spB 198 4 = 176 := rfl
theorem sb_208_2 : spB 208 2 = 176 := rfl
theorem sb_208_3 : spB 208 3 = 176 := rfl
theorem sb_208_4 : spB 208 4 = 176 := rfl
theorem sb_208_5 : spB 208 5 = 176 := rfl
theorem sb_208_6 : spB 208 6 = 16384 := rfl
theorem sb_208_7 : spB 208 7 = 65536 := rfl
theorem sb_215_2 : spB 215 2 = 176 := rfl
theorem sb_215_3 : spB 215 3 = 176 := rfl
theorem sb_215_4 : spB 215 4 = 176 := rfl
theorem sb_215_5 : spB 215 5 = 176 := rfl
theorem sb_215_6 : spB 215 6 = 16384 := rfl
theorem sb_215_7 : spB 215 7 = 65536 := rfl
theorem gF_grw (σ : Sg) (o f n : Nat) : gF (grw σ o f n) = gF σ := rfl
theorem gT_grw (σ : Sg) (o f n : Nat) : gT (grw σ o f n) = gT σ := rfl
/-- a grown array: its length, its places -/
def grl (l n : Nat) : Nat := if n ≤ l then l else 2 * n
def gra (g : Nat → Int) (l n j : Nat) : Int := if n ≤ l then g j else if j < l then g j else 0
theorem grl_ge (l n : Nat) : l ≤ grl l n ∧ n ≤ grl l n := by unfold grl; split <;> omega
theorem gra_lt {g : Nat → Int} {l n j : Nat} (h : j < l) : gra g l n j = g j := by unfold gra; rw [if_pos h]; split <;> rfl
theorem gL_grw (σ : Sg) (o f n a b : Nat) : gL (grw σ o f n) a b = if a = o ∧ b = f then grl (gL σ o f) n else gL σ a b := rfl
theorem gA_grw (σ : Sg) (o f n a b j : Nat) : gA (grw σ o f n) a b j = if a = o ∧ b = f then gra (gA σ o f) (gL σ o f) n j else gA σ a b j := by
  show u2 (gA σ) o f (fun j => if n ≤ gL σ o f then gA σ o f j else if true = true ∧ j < gL σ o f then gA σ o f j else 0) a b j = _
  unfold u2
  split
  · show (if n ≤ gL σ o f then gA σ o f j else if true = true ∧ j < gL σ o f then gA σ o f j else 0) = if n ≤ gL σ o f then gA σ o f j else if j < gL σ o f then gA σ o f j else 0
    simp only [true_and]
  · rfl
theorem tN_add (a b : Nat) : ((a : Int) + (b : Int)).toNat = a + b := by omega
theorem tN_add1 (a : Nat) : ((a : Int) + 1).toNat = a + 1 := by omega
theorem tN_sub1 (a : Nat) : ((a : Int) - 1).toNat = a - 1 := by omega
theorem ct_cps {ph a k : Nat} {as : List AV} {σ : Sg} {P Q : Option AV → Sg → Prop} {PE E : Int → Sg → Prop} (h : ∀ (Q' : Option AV → Sg → Prop) (E' : Int → Sg → Prop), (∀ r σ', P r σ' → Q' r σ') → (∀ x σ', PE x σ' → E' x σ') → Ct ph a k as σ Q' E')
    (hQ : ∀ r σ', Fr (mdT a as) σ σ' → P r σ' → Q r σ') (hE : ∀ x σ', Fr (mdX (mdT a as)) σ σ' → PE x σ' → E x σ') : Ct ph a k as σ Q E :=
  ct_mono (h P PE (fun _ _ q => q) (fun _ _ q => q)) (fun r σ' _ f q => hQ r σ' f q) (fun x σ' _ f q => hE x σ' f q)
/-- a method that begins with a loop -/
theorem ct_jx {ph a k : Nat} {as : List AV} {σ : Sg} {Q : Option AV → Sg → Prop} {E : Int → Sg → Prop} (h : Jx (mdT a as) ph a k as σ Q E 0 (lsE (mY a).2.2.1 as) [] σ) : Ct ph a k as σ Q E := fun hLo X hX => h X hX hLo (fr_refl _ _)
/-- without throws -/
theorem ct_cp {ph a k : Nat} {as : List AV} {σ : Sg} {P Q : Option AV → Sg → Prop} {E : Int → Sg → Prop} (h : ∀ (Q' : Option AV → Sg → Prop) (E' : Int → Sg → Prop), (∀ r σ', P r σ' → Q' r σ') → Ct ph a k as σ Q' E')
    (hQ : ∀ r σ', Fr (mdT a as) σ σ' → P r σ' → Q r σ') : Ct ph a k as σ Q E :=
  ct_mono (h P (fun _ _ => False) (fun _ _ q => q)) (fun r σ' _ f q => hQ r σ' f q) (fun _ _ _ _ q => q.elim)
theorem iAnd_mask (x : Int) (e : Nat) (he : e ≤ 31) : iAnd x ((2 : Int) ^ e - 1) = x % (2 : Int) ^ e := by
  have hc : ((2 : Int) ^ e) = ((2 ^ e : Nat) : Int) := by rw [Int.natCast_pow]; rfl
  have hp : (0 : Nat) < 2 ^ e := Nat.two_pow_pos e
  have hle : 2 ^ e ≤ 2 ^ 31 := Nat.pow_le_pow_right (by decide) he
  have hdv : ((2 ^ e : Nat) : Int) ∣ 4294967296 := by
    have : (2 ^ e : Nat) ∣ 2 ^ 32 := Nat.pow_dvd_pow 2 (by omega)
    exact Int.natCast_dvd_natCast.mpr this
  have h1 : ((Int32.ofInt x &&& Int32.ofInt ((2 : Int) ^ e - 1)).toBitVec.toNat : Int) = x % (2 : Int) ^ e := by
    rw [Int32.toBitVec_and, BitVec.toNat_and]
    have a1 := b32_nat x
    have a2 := b32_nat ((2 : Int) ^ e - 1)
    have a3 : (Int32.ofInt ((2 : Int) ^ e - 1)).toBitVec.toNat = 2 ^ e - 1 := by
      rw [hc] at a2 ⊢
      generalize 2 ^ e = p at *
      omega
    rw [a3, Nat.and_two_pow_sub_one_eq_mod, Int.natCast_emod, a1, hc]
    exact Int.emod_emod_of_dvd x hdv
  unfold iAnd
  rw [b32_toInt, if_pos]
  · exact h1
  · have h2 := Int.emod_lt_of_pos x (show (0 : Int) < (2 : Int) ^ e by rw [hc]; omega)
    rw [← h1, hc] at h2
    generalize 2 ^ e = p at *
    omega
theorem iAnd_255 (x : Int) : iAnd x 255 = x % 256 := by
  have := iAnd_mask x 8 (by decide)
  rw [show ((2 : Int) ^ 8 - 1) = 255 by decide, show ((2 : Int) ^ 8) = 256 by decide] at this
  exact this
theorem iAnd_15 (x : Int) : iAnd x 15 = x % 16 := by
  have := iAnd_mask x 4 (by decide)
  rw [show ((2 : Int) ^ 4 - 1) = 15 by decide, show ((2 : Int) ^ 4) = 16 by decide] at this
  exact this
theorem iAnd_1 (x : Int) : iAnd x 1 = x % 2 := by
  have := iAnd_mask x 1 (by decide)
  rw [show ((2 : Int) ^ 1 - 1) = 1 by decide, show ((2 : Int) ^ 1) = 2 by decide] at this
  exact this
theorem w8_w8 (x : Int) : w8 (w8 x) = w8 x := by unfold w8; omega
theorem w8_mod (x : Int) : w8 x % 256 = x % 256 := by unfold w8; omega
/-- an array that a method itself makes, copies to and lays back -/
def groS (σ : Sg) (e m o f n : Nat) : Sg := mV (sB (nA σ e m) (gN σ) 0 (cpy (gA (nA σ e m) o f) (gA (nA σ e m) (gN σ) 0) 0 0 n)) (gN σ) o f
theorem gro_L {σ : Sg} {e m o f n : Nat} : gL (groS σ e m o f n) o f = m := by
  unfold groS
  rw [gL_mV, if_pos ⟨rfl, rfl⟩, gL_sB, gL_nA, if_pos ⟨rfl, rfl⟩]
theorem gro_L2 {σ : Sg} {e m o f n a b : Nat} (h : ¬ (a = o ∧ b = f)) (hb : b ≠ 0) : gL (groS σ e m o f n) a b = gL σ a b := by
  unfold groS
  rw [gL_mV, if_neg h, if_neg (fun c => hb c.2), gL_sB, gL_nA, if_neg (fun c => hb c.2)]
theorem gro_A {σ : Sg} {e m o f n i : Nat} (hf : f ≠ 0) (hi : i < n) : gA (groS σ e m o f n) o f i = gA σ o f i := by
  unfold groS
  rw [gA_mV, if_pos ⟨rfl, rfl⟩, gA_sB, if_pos ⟨rfl, rfl⟩]
  unfold cpy
  rw [if_pos ⟨Nat.zero_le _, by omega⟩, gA_nA]
  simp
theorem gro_T {σ : Sg} {e m o f n : Nat} : gT (groS σ e m o f n) = gT σ := by
  unfold groS
  rw [gT_mV, gT_sB, gT_nA, gL_sB, gL_nA, if_pos ⟨rfl, rfl⟩]
  omega
theorem getD_drop {l : List Int} {q : Nat} {b : Int} {r : List Int} (h : l.drop q = b :: r) : q < l.length ∧ l.getD q 0 = b ∧ l.drop (q + 1) = r := by
  have hq : q < l.length := by
    rcases Nat.lt_or_ge q l.length with c | c
    · exact c
    · rw [List.drop_eq_nil_iff.mpr c] at h; cases h
  have e := List.drop_eq_getElem_cons hq
  rw [h] at e
  injection e with e1 e2
  refine ⟨hq, ?_, e2.symm⟩
  rw [List.getD_eq_getElem?_getD, List.getElem?_eq_getElem hq, e1]
  rfl
theorem ext_getD : ∀ {l m : List Int}, l.length = m.length → (∀ q, q < l.length → l.getD q 0 = m.getD q 0) → l = m
  | [], [], _, _ => rfl
  | [], _ :: _, h, _ => by cases h
  | _ :: _, [], h, _ => by cases h
  | a :: l, b :: m, h, g => by
    have h0 : a = b := g 0 (by simp)
    have h1 : l = m := ext_getD (by simpa using h) (fun q hq => g (q + 1) (by simpa using hq))
    rw [h0, h1]
theorem getD_app1 {l m : List Int} {q : Nat} (h : q < l.length) : (l ++ m).getD q 0 = l.getD q 0 := by
  rw [List.getD_eq_getElem?_getD, List.getD_eq_getElem?_getD, List.getElem?_append_left h]
