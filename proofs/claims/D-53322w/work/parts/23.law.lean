/-! THE LAW: its walk (L_law) -/
set_option maxRecDepth 100000
theorem oky_X0_init : okY yX0_init 0 := ⟨by decide +kernel, by decide +kernel, by decide +kernel⟩
theorem oky_X13_init : okY yX13_init 0 := ⟨by decide +kernel, by decide +kernel, by decide +kernel⟩
theorem lV_L_13 : GoodIn lw_all (wsV "EdgeSumsLaw" 13 "EdgeSums" yX0_setPage (ws_ yX0_setPage cX0_setPage 3 (some FieldType.int))) := lw_V q1002 q1003 q1004 q125 q1005
theorem oky_X0_setPage : okY yX0_setPage 2 := ⟨by decide +kernel, by decide +kernel, by decide +kernel⟩
theorem lV_L_17 : GoodIn lw_all (wsV "EdgeSumsLaw" 17 "EdgeSumsModel" yX13_setPage (ws_ yX13_setPage cX13_setPage 3 (some FieldType.int))) := lw_V q2724 q2725 q2726 q158 q2727
theorem oky_X13_setPage : okY yX13_setPage 2 := ⟨by decide +kernel, by decide +kernel, by decide +kernel⟩
theorem lV_L_18 : GoodIn lw_all (wsV "EdgeSumsLaw" 18 "EdgeSums" yX0_moveCell (ws_ yX0_moveCell cX0_moveCell 4 (some FieldType.int))) := lw_V q1139 q1140 q1141 q125 q1142
theorem oky_X0_moveCell : okY yX0_moveCell 2 := ⟨by decide +kernel, by decide +kernel, by decide +kernel⟩
theorem lV_L_21 : GoodIn lw_all (wsV "EdgeSumsLaw" 21 "EdgeSumsModel" yX13_moveCell (ws_ yX13_moveCell cX13_moveCell 6 (some FieldType.int))) := lw_V q2742 q2743 q2744 q158 q2745
theorem oky_X13_moveCell : okY yX13_moveCell 2 := ⟨by decide +kernel, by decide +kernel, by decide +kernel⟩
theorem lV_L_22 : GoodIn lw_all (wsV "EdgeSumsLaw" 22 "EdgeSums" yX0_splitCell (ws_ yX0_splitCell cX0_splitCell 2 (some FieldType.int))) := lw_V q1191 q1192 q1193 q125 q1194
theorem oky_X0_splitCell : okY yX0_splitCell 1 := ⟨by decide +kernel, by decide +kernel, by decide +kernel⟩
theorem lV_L_26 : GoodIn lw_all (wsV "EdgeSumsLaw" 26 "EdgeSumsModel" yX13_splitCell (ws_ yX13_splitCell cX13_splitCell 3 (some FieldType.int))) := lw_V q2770 q2771 q2772 q158 q2773
theorem oky_X13_splitCell : okY yX13_splitCell 1 := ⟨by decide +kernel, by decide +kernel, by decide +kernel⟩
theorem lV_L_27 : GoodIn lw_all (wsV "EdgeSumsLaw" 27 "EdgeSums" yX0_mirror (ws_ yX0_mirror cX0_mirror 2 (some FieldType.int))) := lw_V q1195 q1196 q1197 q125 q1198
theorem oky_X0_mirror : okY yX0_mirror 0 := ⟨by decide +kernel, by decide +kernel, by decide +kernel⟩
theorem lV_L_31 : GoodIn lw_all (wsV "EdgeSumsLaw" 31 "EdgeSumsModel" yX13_mirror (ws_ yX13_mirror cX13_mirror 3 (some FieldType.int))) := lw_V q2774 q2775 q2776 q158 q2777
theorem oky_X13_mirror : okY yX13_mirror 0 := ⟨by decide +kernel, by decide +kernel, by decide +kernel⟩
theorem lV_L_32 : GoodIn lw_all (wsV "EdgeSumsLaw" 32 "EdgeSums" yX0_turn (ws_ yX0_turn cX0_turn 3 (some FieldType.int))) := lw_V q1208 q1209 q1210 q125 q1211
theorem oky_X0_turn : okY yX0_turn 0 := ⟨by decide +kernel, by decide +kernel, by decide +kernel⟩
theorem lV_L_35 : GoodIn lw_all (wsV "EdgeSumsLaw" 35 "EdgeSumsModel" yX13_turn (ws_ yX13_turn cX13_turn 5 (some FieldType.int))) := lw_V q2790 q2791 q2792 q158 q2793
theorem oky_X13_turn : okY yX13_turn 0 := ⟨by decide +kernel, by decide +kernel, by decide +kernel⟩
theorem lV_L_36 : GoodIn lw_all (wsV "EdgeSumsLaw" 36 "EdgeSums" yX0_write (ws_ yX0_write cX0_write 5 (some FieldType.int))) := lw_V q1216 q1217 q1218 q125 q1219
theorem oky_X0_write : okY yX0_write 2 := ⟨by decide +kernel, by decide +kernel, by decide +kernel⟩
theorem lV_L_39 : GoodIn lw_all (wsV "EdgeSumsLaw" 39 "EdgeSumsModel" yX13_write (ws_ yX13_write cX13_write 4 (some FieldType.int))) := lw_V q2798 q2799 q2800 q158 q2801
theorem oky_X13_write : okY yX13_write 2 := ⟨by decide +kernel, by decide +kernel, by decide +kernel⟩
theorem lV_L_40 : GoodIn lw_all (wsV "EdgeSumsLaw" 40 "EdgeSums" yX0_fill (ws_ yX0_fill cX0_fill 6 (some FieldType.int))) := lw_V q1230 q1231 q1232 q125 q1233
theorem oky_X0_fill : okY yX0_fill 0 := ⟨by decide +kernel, by decide +kernel, by decide +kernel⟩
theorem lV_L_43 : GoodIn lw_all (wsV "EdgeSumsLaw" 43 "EdgeSumsModel" yX13_fill (ws_ yX13_fill cX13_fill 4 (some FieldType.int))) := lw_V q2806 q2807 q2808 q158 q2809
theorem oky_X13_fill : okY yX13_fill 0 := ⟨by decide +kernel, by decide +kernel, by decide +kernel⟩
theorem lV_L_44 : GoodIn lw_all (wsV "EdgeSumsLaw" 44 "EdgeSums" yX0_exchange (ws_ yX0_exchange cX0_exchange 5 (some FieldType.int))) := lw_V q1239 q1240 q1241 q125 q1242
theorem oky_X0_exchange : okY yX0_exchange 2 := ⟨by decide +kernel, by decide +kernel, by decide +kernel⟩
theorem lV_L_47 : GoodIn lw_all (wsV "EdgeSumsLaw" 47 "EdgeSumsModel" yX13_exchange (ws_ yX13_exchange cX13_exchange 4 (some FieldType.int))) := lw_V q2814 q2815 q2816 q158 q2817
theorem oky_X13_exchange : okY yX13_exchange 2 := ⟨by decide +kernel, by decide +kernel, by decide +kernel⟩
theorem lV_L_48 : GoodIn lw_all (wsV "EdgeSumsLaw" 48 "EdgeSums" yX0_give (ws_ yX0_give cX0_give 3 (some FieldType.int))) := lw_V q1243 q1244 q1245 q125 q1246
theorem oky_X0_give : okY yX0_give 2 := ⟨by decide +kernel, by decide +kernel, by decide +kernel⟩
theorem lV_L_51 : GoodIn lw_all (wsV "EdgeSumsLaw" 51 "EdgeSumsModel" yX13_give (ws_ yX13_give cX13_give 3 (some FieldType.int))) := lw_V q2818 q2819 q2820 q158 q2821
theorem oky_X13_give : okY yX13_give 2 := ⟨by decide +kernel, by decide +kernel, by decide +kernel⟩
theorem lV_L_52 : GoodIn lw_all (wsV "EdgeSumsLaw" 52 "EdgeSums" yX0_showSum (ws_ yX0_showSum cX0_showSum 3 (some FieldType.int))) := lw_V q1287 q1288 q1289 q125 q1290
theorem oky_X0_showSum : okY yX0_showSum 2 := ⟨by decide +kernel, by decide +kernel, by decide +kernel⟩
theorem lV_L_55 : GoodIn lw_all (wsV "EdgeSumsLaw" 55 "EdgeSumsModel" yX13_showSum (ws_ yX13_showSum cX13_showSum 3 (some FieldType.int))) := lw_V q2826 q2827 q2828 q158 q2829
theorem oky_X13_showSum : okY yX13_showSum 2 := ⟨by decide +kernel, by decide +kernel, by decide +kernel⟩
theorem lV_L_56 : GoodIn lw_all (wsV "EdgeSumsLaw" 56 "EdgeSums" yX0_reduce (ws_ yX0_reduce cX0_reduce 9 (some FieldType.int))) := lw_V q1291 q1292 q1293 q125 q1294
theorem oky_X0_reduce : okY yX0_reduce 2 := ⟨by decide +kernel, by decide +kernel, by decide +kernel⟩
theorem lV_L_59 : GoodIn lw_all (wsV "EdgeSumsLaw" 59 "EdgeSumsModel" yX13_reduce (ws_ yX13_reduce cX13_reduce 7 (some FieldType.int))) := lw_V q2850 q2851 q2852 q158 q2853
theorem oky_X13_reduce : okY yX13_reduce 2 := ⟨by decide +kernel, by decide +kernel, by decide +kernel⟩
theorem lV_L_60 : GoodIn lw_all (wsV "EdgeSumsLaw" 60 "EdgeSums" yX0_support (ws_ yX0_support cX0_support 4 (some FieldType.int))) := lw_V q1566 q1567 q1568 q125 q1569
theorem oky_X0_support : okY yX0_support 0 := ⟨by decide +kernel, by decide +kernel, by decide +kernel⟩
theorem lV_L_63 : GoodIn lw_all (wsV "EdgeSumsLaw" 63 "EdgeSumsModel" yX13_support (ws_ yX13_support cX13_support 4 (some FieldType.int))) := lw_V q2938 q2939 q2940 q158 q2941
theorem oky_X13_support : okY yX13_support 0 := ⟨by decide +kernel, by decide +kernel, by decide +kernel⟩
theorem lV_L_64 : GoodIn lw_all (wsV "EdgeSumsLaw" 64 "EdgeSums" yX0_allow (ws_ yX0_allow cX0_allow 4 (some FieldType.int))) := lw_V q1579 q1580 q1581 q125 q1582
theorem oky_X0_allow : okY yX0_allow 2 := ⟨by decide +kernel, by decide +kernel, by decide +kernel⟩
theorem lV_L_67 : GoodIn lw_all (wsV "EdgeSumsLaw" 67 "EdgeSumsModel" yX13_allow (ws_ yX13_allow cX13_allow 3 (some FieldType.int))) := lw_V q2942 q2943 q2944 q158 q2945
theorem oky_X13_allow : okY yX13_allow 2 := ⟨by decide +kernel, by decide +kernel, by decide +kernel⟩
theorem lV_L_68 : GoodIn lw_all (wsV "EdgeSumsLaw" 68 "EdgeSums" yX0_setCost (ws_ yX0_setCost cX0_setCost 4 (some FieldType.int))) := lw_V q1587 q1588 q1589 q125 q1590
theorem oky_X0_setCost : okY yX0_setCost 2 := ⟨by decide +kernel, by decide +kernel, by decide +kernel⟩
theorem lV_L_71 : GoodIn lw_all (wsV "EdgeSumsLaw" 71 "EdgeSumsModel" yX13_setCost (ws_ yX13_setCost cX13_setCost 4 (some FieldType.int))) := lw_V q2946 q2947 q2948 q158 q2949
theorem oky_X13_setCost : okY yX13_setCost 2 := ⟨by decide +kernel, by decide +kernel, by decide +kernel⟩
theorem lV_L_72 : GoodIn lw_all (wsV "EdgeSumsLaw" 72 "EdgeSums" yX0_strike (ws_ yX0_strike cX0_strike 3 (some FieldType.int))) := lw_V q1591 q1592 q1593 q125 q1594
theorem oky_X0_strike : okY yX0_strike 2 := ⟨by decide +kernel, by decide +kernel, by decide +kernel⟩
theorem lV_L_75 : GoodIn lw_all (wsV "EdgeSumsLaw" 75 "EdgeSumsModel" yX13_strike (ws_ yX13_strike cX13_strike 4 (some FieldType.int))) := lw_V q2950 q2951 q2952 q158 q2953
theorem oky_X13_strike : okY yX13_strike 2 := ⟨by decide +kernel, by decide +kernel, by decide +kernel⟩
theorem lV_L_76 : GoodIn lw_all (wsV "EdgeSumsLaw" 76 "EdgeSums" yX0_advance (ws_ yX0_advance cX0_advance 3 (some FieldType.int))) := lw_V q1613 q1614 q1615 q125 q1616
theorem oky_X0_advance : okY yX0_advance 1 := ⟨by decide +kernel, by decide +kernel, by decide +kernel⟩
theorem lV_L_79 : GoodIn lw_all (wsV "EdgeSumsLaw" 79 "EdgeSumsModel" yX13_advance (ws_ yX13_advance cX13_advance 3 (some FieldType.int))) := lw_V q2966 q2967 q2968 q158 q2969
theorem oky_X13_advance : okY yX13_advance 1 := ⟨by decide +kernel, by decide +kernel, by decide +kernel⟩
theorem lV_L_80 : GoodIn lw_all (wsV "EdgeSumsLaw" 80 "EdgeSums" yX0_restart (ws_ yX0_restart cX0_restart 1 (some FieldType.int))) := lw_V q1618 q1619 q1620 q125 q1621
theorem oky_X0_restart : okY yX0_restart 0 := ⟨by decide +kernel, by decide +kernel, by decide +kernel⟩
theorem lV_L_83 : GoodIn lw_all (wsV "EdgeSumsLaw" 83 "EdgeSumsModel" yX13_restart (ws_ yX13_restart cX13_restart 1 (some FieldType.int))) := lw_V q2970 q2971 q2972 q158 q2973
theorem oky_X13_restart : okY yX13_restart 0 := ⟨by decide +kernel, by decide +kernel, by decide +kernel⟩
theorem lV_L_84 : GoodIn lw_all (wsV "EdgeSumsLaw" 84 "EdgeSums" yX0_take (ws_ yX0_take cX0_take 3 (some FieldType.int))) := lw_V q1626 q1627 q1628 q125 q1629
theorem oky_X0_take : okY yX0_take 1 := ⟨by decide +kernel, by decide +kernel, by decide +kernel⟩
theorem lV_L_87 : GoodIn lw_all (wsV "EdgeSumsLaw" 87 "EdgeSumsModel" yX13_take (ws_ yX13_take cX13_take 4 (some FieldType.int))) := lw_V q2978 q2979 q2980 q158 q2981
theorem oky_X13_take : okY yX13_take 1 := ⟨by decide +kernel, by decide +kernel, by decide +kernel⟩
theorem lV_L_88 : GoodIn lw_all (wsV "EdgeSumsLaw" 88 "EdgeSums" yX0_restore (ws_ yX0_restore cX0_restore 3 (some FieldType.int))) := lw_V q1639 q1640 q1641 q125 q1642
theorem oky_X0_restore : okY yX0_restore 1 := ⟨by decide +kernel, by decide +kernel, by decide +kernel⟩
theorem lV_L_91 : GoodIn lw_all (wsV "EdgeSumsLaw" 91 "EdgeSumsModel" yX13_restore (ws_ yX13_restore cX13_restore 4 (some FieldType.int))) := lw_V q2986 q2987 q2988 q158 q2989
theorem oky_X13_restore : okY yX13_restore 1 := ⟨by decide +kernel, by decide +kernel, by decide +kernel⟩
theorem lV_L_92 : GoodIn lw_all (wsV "EdgeSumsLaw" 92 "EdgeSums" yX0_undo (ws_ yX0_undo cX0_undo 1 (some FieldType.int))) := lw_V q1643 q1644 q1645 q125 q1646
theorem oky_X0_undo : okY yX0_undo 0 := ⟨by decide +kernel, by decide +kernel, by decide +kernel⟩
theorem lV_L_95 : GoodIn lw_all (wsV "EdgeSumsLaw" 95 "EdgeSumsModel" yX13_undo (ws_ yX13_undo cX13_undo 2 (some FieldType.int))) := lw_V q2990 q2991 q2992 q158 q2993
theorem oky_X13_undo : okY yX13_undo 0 := ⟨by decide +kernel, by decide +kernel, by decide +kernel⟩
theorem lV_L_96 : GoodIn lw_all (wsV "EdgeSumsLaw" 96 "EdgeSums" yX0_append (ws_ yX0_append cX0_append 2 (some FieldType.int))) := lw_V q1662 q1663 q1664 q125 q1665
theorem oky_X0_append : okY yX0_append 1 := ⟨by decide +kernel, by decide +kernel, by decide +kernel⟩
theorem lV_L_99 : GoodIn lw_all (wsV "EdgeSumsLaw" 99 "EdgeSumsModel" yX13_append (ws_ yX13_append cX13_append 2 (some FieldType.int))) := lw_V q2994 q2995 q2996 q158 q2997
theorem oky_X13_append : okY yX13_append 1 := ⟨by decide +kernel, by decide +kernel, by decide +kernel⟩
theorem lV_L_100 : GoodIn lw_all (wsV "EdgeSumsLaw" 100 "EdgeSums" yX0_clearText (ws_ yX0_clearText cX0_clearText 2 (some FieldType.int))) := lw_V q1737 q1738 q1739 q125 q1740
theorem oky_X0_clearText : okY yX0_clearText 0 := ⟨by decide +kernel, by decide +kernel, by decide +kernel⟩
theorem lV_L_103 : GoodIn lw_all (wsV "EdgeSumsLaw" 103 "EdgeSumsModel" yX13_clearText (ws_ yX13_clearText cX13_clearText 2 (some FieldType.int))) := lw_V q2998 q2999 q3000 q158 q3001
theorem oky_X13_clearText : okY yX13_clearText 0 := ⟨by decide +kernel, by decide +kernel, by decide +kernel⟩
theorem oky_X0_load : okY yX0_load 0 := ⟨by decide +kernel, by decide +kernel, by decide +kernel⟩
theorem lV_L_107 : GoodIn lw_all (wsV "EdgeSumsLaw" 107 "EdgeSumsModel" yX13_load (ws_ yX13_load cX13_load 4 (some FieldType.int))) := lw_V q3002 q3003 q3004 q158 q3005
theorem oky_X13_load : okY yX13_load 0 := ⟨by decide +kernel, by decide +kernel, by decide +kernel⟩
theorem lV_L_108 : GoodIn lw_all (wsV "EdgeSumsLaw" 108 "EdgeSums" yX0_count (ws_ yX0_count cX0_count 2 (some FieldType.int))) := lw_V q2178 q2179 q2180 q125 q2181
theorem oky_X0_count : okY yX0_count 1 := ⟨by decide +kernel, by decide +kernel, by decide +kernel⟩
theorem lV_L_111 : GoodIn lw_all (wsV "EdgeSumsLaw" 111 "EdgeSumsModel" yX13_count (ws_ yX13_count cX13_count 2 (some FieldType.int))) := lw_V q3075 q3076 q3077 q158 q3078
theorem oky_X13_count : okY yX13_count 1 := ⟨by decide +kernel, by decide +kernel, by decide +kernel⟩
theorem lV_L_112 : GoodIn lw_all (wsV "EdgeSumsLaw" 112 "EdgeSums" yX0_cell (ws_ yX0_cell cX0_cell 3 (some FieldType.int))) := lw_V q2187 q2188 q2189 q125 q2190
theorem oky_X0_cell : okY yX0_cell 2 := ⟨by decide +kernel, by decide +kernel, by decide +kernel⟩
theorem lV_L_115 : GoodIn lw_all (wsV "EdgeSumsLaw" 115 "EdgeSumsModel" yX13_cell (ws_ yX13_cell cX13_cell 3 (some FieldType.int))) := lw_V q3079 q3080 q3081 q158 q3082
theorem oky_X13_cell : okY yX13_cell 2 := ⟨by decide +kernel, by decide +kernel, by decide +kernel⟩
theorem lV_L_116 : GoodIn lw_all (wsV "EdgeSumsLaw" 116 "EdgeSums" yX0_line (ws_ yX0_line cX0_line 4 (some FieldType.int))) := lw_V q2196 q2197 q2198 q125 q2199
theorem oky_X0_line : okY yX0_line 2 := ⟨by decide +kernel, by decide +kernel, by decide +kernel⟩
theorem lV_L_119 : GoodIn lw_all (wsV "EdgeSumsLaw" 119 "EdgeSumsModel" yX13_line (ws_ yX13_line cX13_line 4 (some FieldType.int))) := lw_V q3087 q3088 q3089 q158 q3090
theorem oky_X13_line : okY yX13_line 2 := ⟨by decide +kernel, by decide +kernel, by decide +kernel⟩
theorem lV_L_120 : GoodIn lw_all (wsV "EdgeSumsLaw" 120 "EdgeSums" yX0_block (ws_ yX0_block cX0_block 10 (some FieldType.int))) := lw_V q2207 q2208 q2209 q125 q2210
theorem oky_X0_block : okY yX0_block 2 := ⟨by decide +kernel, by decide +kernel, by decide +kernel⟩
theorem lV_L_123 : GoodIn lw_all (wsV "EdgeSumsLaw" 123 "EdgeSumsModel" yX13_block (ws_ yX13_block cX13_block 8 (some FieldType.int))) := lw_V q3091 q3092 q3093 q158 q3094
theorem oky_X13_block : okY yX13_block 2 := ⟨by decide +kernel, by decide +kernel, by decide +kernel⟩
theorem lV_L_124 : GoodIn lw_all (wsV "EdgeSumsLaw" 124 "EdgeSums" yX0_rule (ws_ yX0_rule cX0_rule 3 (some FieldType.int))) := lw_V q2215 q2216 q2217 q125 q2218
theorem oky_X0_rule : okY yX0_rule 2 := ⟨by decide +kernel, by decide +kernel, by decide +kernel⟩
theorem lV_L_127 : GoodIn lw_all (wsV "EdgeSumsLaw" 127 "EdgeSumsModel" yX13_rule (ws_ yX13_rule cX13_rule 5 (some FieldType.int))) := lw_V q3099 q3100 q3101 q158 q3102
theorem oky_X13_rule : okY yX13_rule 2 := ⟨by decide +kernel, by decide +kernel, by decide +kernel⟩
theorem lV_L_128 : GoodIn lw_all (wsV "EdgeSumsLaw" 128 "EdgeSums" yX0_possible (ws_ yX0_possible cX0_possible 3 (some FieldType.int))) := lw_V q2390 q2391 q2392 q125 q2393
theorem oky_X0_possible : okY yX0_possible 2 := ⟨by decide +kernel, by decide +kernel, by decide +kernel⟩
theorem lV_L_131 : GoodIn lw_all (wsV "EdgeSumsLaw" 131 "EdgeSumsModel" yX13_possible (ws_ yX13_possible cX13_possible 3 (some FieldType.int))) := lw_V q3111 q3112 q3113 q158 q3114
theorem oky_X13_possible : okY yX13_possible 2 := ⟨by decide +kernel, by decide +kernel, by decide +kernel⟩
theorem lV_L_132 : GoodIn lw_all (wsV "EdgeSumsLaw" 132 "EdgeSums" yX0_why (ws_ yX0_why cX0_why 4 (some FieldType.int))) := lw_V q2394 q2395 q2396 q125 q2397
theorem oky_X0_why : okY yX0_why 3 := ⟨by decide +kernel, by decide +kernel, by decide +kernel⟩
theorem lV_L_136 : GoodIn lw_all (wsV "EdgeSumsLaw" 136 "EdgeSumsModel" yX13_why (ws_ yX13_why cX13_why 5 (some FieldType.int))) := lw_V q3115 q3116 q3117 q158 q3118
theorem oky_X13_why : okY yX13_why 3 := ⟨by decide +kernel, by decide +kernel, by decide +kernel⟩
theorem lV_L_137 : GoodIn lw_all (wsV "EdgeSumsLaw" 137 "EdgeSums" yX0_next (ws_ yX0_next cX0_next 2 (some FieldType.int))) := lw_V q2398 q2399 q2400 q125 q2401
theorem oky_X0_next : okY yX0_next 1 := ⟨by decide +kernel, by decide +kernel, by decide +kernel⟩
theorem lV_L_140 : GoodIn lw_all (wsV "EdgeSumsLaw" 140 "EdgeSumsModel" yX13_next (ws_ yX13_next cX13_next 2 (some FieldType.int))) := lw_V q3119 q3120 q3121 q158 q3122
theorem oky_X13_next : okY yX13_next 1 := ⟨by decide +kernel, by decide +kernel, by decide +kernel⟩
theorem lV_L_141 : GoodIn lw_all (wsV "EdgeSumsLaw" 141 "EdgeSums" yX0_run (ws_ yX0_run cX0_run 4 (some FieldType.int))) := lw_V q2406 q2407 q2408 q125 q2409
theorem oky_X0_run : okY yX0_run 1 := ⟨by decide +kernel, by decide +kernel, by decide +kernel⟩
theorem lV_L_144 : GoodIn lw_all (wsV "EdgeSumsLaw" 144 "EdgeSumsModel" yX13_run (ws_ yX13_run cX13_run 5 (some FieldType.int))) := lw_V q3127 q3128 q3129 q158 q3130
theorem oky_X13_run : okY yX13_run 1 := ⟨by decide +kernel, by decide +kernel, by decide +kernel⟩
theorem lV_L_145 : GoodIn lw_all (wsV "EdgeSumsLaw" 145 "EdgeSums" yX0_step (ws_ yX0_step cX0_step 4 (some FieldType.int))) := lw_V q2427 q2428 q2429 q125 q2430
theorem oky_X0_step : okY yX0_step 2 := ⟨by decide +kernel, by decide +kernel, by decide +kernel⟩
theorem lV_L_148 : GoodIn lw_all (wsV "EdgeSumsLaw" 148 "EdgeSumsModel" yX13_step (ws_ yX13_step cX13_step 3 (some FieldType.int))) := lw_V q3135 q3136 q3137 q158 q3138
theorem oky_X13_step : okY yX13_step 2 := ⟨by decide +kernel, by decide +kernel, by decide +kernel⟩
theorem lV_L_149 : GoodIn lw_all (wsV "EdgeSumsLaw" 149 "EdgeSums" yX0_rank (ws_ yX0_rank cX0_rank 2 (some FieldType.int))) := lw_V q2431 q2432 q2433 q125 q2434
theorem oky_X0_rank : okY yX0_rank 1 := ⟨by decide +kernel, by decide +kernel, by decide +kernel⟩
theorem lV_L_152 : GoodIn lw_all (wsV "EdgeSumsLaw" 152 "EdgeSumsModel" yX13_rank (ws_ yX13_rank cX13_rank 5 (some FieldType.int))) := lw_V q3139 q3140 q3141 q158 q3142
theorem oky_X13_rank : okY yX13_rank 1 := ⟨by decide +kernel, by decide +kernel, by decide +kernel⟩
theorem lV_L_153 : GoodIn lw_all (wsV "EdgeSumsLaw" 153 "EdgeSums" yX0_suppose (ws_ yX0_suppose cX0_suppose 6 (some FieldType.int))) := lw_V q2441 q2442 q2443 q125 q2444
theorem oky_X0_suppose : okY yX0_suppose 3 := ⟨by decide +kernel, by decide +kernel, by decide +kernel⟩
theorem lV_L_156 : GoodIn lw_all (wsV "EdgeSumsLaw" 156 "EdgeSumsModel" yX13_suppose (ws_ yX13_suppose cX13_suppose 4 (some FieldType.int))) := lw_V q3143 q3144 q3145 q158 q3146
theorem oky_X13_suppose : okY yX13_suppose 3 := ⟨by decide +kernel, by decide +kernel, by decide +kernel⟩
theorem lV_L_157 : GoodIn lw_all (wsV "EdgeSumsLaw" 157 "EdgeSums" yX0_needed (ws_ yX0_needed cX0_needed 4 (some FieldType.int))) := lw_V q2452 q2453 q2454 q125 q2455
theorem oky_X0_needed : okY yX0_needed 2 := ⟨by decide +kernel, by decide +kernel, by decide +kernel⟩
theorem lV_L_160 : GoodIn lw_all (wsV "EdgeSumsLaw" 160 "EdgeSumsModel" yX13_needed (ws_ yX13_needed cX13_needed 5 (some FieldType.int))) := lw_V q3147 q3148 q3149 q158 q3150
theorem oky_X13_needed : okY yX13_needed 2 := ⟨by decide +kernel, by decide +kernel, by decide +kernel⟩
theorem lV_L_161 : GoodIn lw_all (wsV "EdgeSumsLaw" 161 "EdgeSums" yX0_enough (ws_ yX0_enough cX0_enough 6 (some FieldType.int))) := lw_V q2457 q2458 q2459 q125 q2460
theorem oky_X0_enough : okY yX0_enough 0 := ⟨by decide +kernel, by decide +kernel, by decide +kernel⟩
theorem lV_L_164 : GoodIn lw_all (wsV "EdgeSumsLaw" 164 "EdgeSumsModel" yX13_enough (ws_ yX13_enough cX13_enough 5 (some FieldType.int))) := lw_V q3151 q3152 q3153 q158 q3154
theorem oky_X13_enough : okY yX13_enough 0 := ⟨by decide +kernel, by decide +kernel, by decide +kernel⟩
theorem lV_L_165 : GoodIn lw_all (wsV "EdgeSumsLaw" 165 "EdgeSums" yX0_printed (ws_ yX0_printed cX0_printed 4 (some FieldType.int))) := lw_V q2501 q2502 q2503 q125 q2504
theorem oky_X0_printed : okY yX0_printed 2 := ⟨by decide +kernel, by decide +kernel, by decide +kernel⟩
theorem lV_L_168 : GoodIn lw_all (wsV "EdgeSumsLaw" 168 "EdgeSumsModel" yX13_printed (ws_ yX13_printed cX13_printed 5 (some FieldType.int))) := lw_V q3159 q3160 q3161 q158 q3162
theorem oky_X13_printed : okY yX13_printed 2 := ⟨by decide +kernel, by decide +kernel, by decide +kernel⟩
abbrev mi_L_law : MI := ("EdgeSumsLaw", x, cL_law, 4, some .boolean, 15)
noncomputable def f_L_law_L18  : Nat → Option Nat → Option Nat → Option Nat → Int32 → PH → Option (Int32 × PH)
  | 0, _, _, _, _, _ => none
  | k + 1, x0, x1, x2, x3, h => (aln 0 x0 h).bind (fun t1 => if (t1 - 4) < x3 then (some (1, h)) else ((ald 0 x0 x3 h).bind (fun t2 => if (t2 &&& 63) = 0 then ((ald 0 x0 (x3 + 1) h).bind (fun t3 => (ald 0 x0 (x3 + 2) h).bind (fun t4 => (rcv 0 x1 h).bind (fun u5 => (f_X0_setPage x1 t3 t4 h).bind (fun q6 => (ald 0 x0 (x3 + 1) q6.2).bind (fun t7 => (ald 0 x0 (x3 + 2) q6.2).bind (fun t8 => (rcv 11 x2 q6.2).bind (fun u9 => (f_X13_setPage x2 t7 t8 q6.2).bind (fun q10 => if q6.1 = q10.1 then ((f_L_law_L18 k) x0 x1 x2 (x3 + 4) q10.2) else (some (0, q10.2))))))))))) else (if (t2 &&& 63) = 1 then ((ald 0 x0 (x3 + 1) h).bind (fun t11 => (ald 0 x0 (x3 + 2) h).bind (fun t12 => (rcv 0 x1 h).bind (fun u13 => (f_X0_moveCell x1 t11 t12 h).bind (fun q14 => (ald 0 x0 (x3 + 1) q14.2).bind (fun t15 => (ald 0 x0 (x3 + 2) q14.2).bind (fun t16 => (rcv 11 x2 q14.2).bind (fun u17 => (f_X13_moveCell x2 t15 t16 q14.2).bind (fun q18 => if q14.1 = q18.1 then ((f_L_law_L18 k) x0 x1 x2 (x3 + 4) q18.2) else (some (0, q18.2))))))))))) else (if (t2 &&& 63) = 2 then ((ald 0 x0 (x3 + 1) h).bind (fun t19 => (rcv 0 x1 h).bind (fun u20 => (f_X0_splitCell x1 t19 h).bind (fun q21 => (ald 0 x0 (x3 + 1) q21.2).bind (fun t22 => (rcv 11 x2 q21.2).bind (fun u23 => (f_X13_splitCell x2 t22 q21.2).bind (fun q24 => if q21.1 = q24.1 then ((f_L_law_L18 k) x0 x1 x2 (x3 + 4) q24.2) else (some (0, q24.2))))))))) else (if (t2 &&& 63) = 3 then ((rcv 0 x1 h).bind (fun u25 => (f_X0_mirror x1 h).bind (fun q26 => (rcv 11 x2 q26.2).bind (fun u27 => (f_X13_mirror x2 q26.2).bind (fun q28 => if q26.1 = q28.1 then ((f_L_law_L18 k) x0 x1 x2 (x3 + 4) q28.2) else (some (0, q28.2))))))) else (if (t2 &&& 63) = 4 then ((rcv 0 x1 h).bind (fun u29 => (f_X0_turn x1 h).bind (fun q30 => (rcv 11 x2 q30.2).bind (fun u31 => (f_X13_turn x2 q30.2).bind (fun q32 => if q30.1 = q32.1 then ((f_L_law_L18 k) x0 x1 x2 (x3 + 4) q32.2) else (some (0, q32.2))))))) else (if (t2 &&& 63) = 5 then ((ald 0 x0 (x3 + 1) h).bind (fun t33 => (ald 0 x0 (x3 + 2) h).bind (fun t34 => (rcv 0 x1 h).bind (fun u35 => (f_X0_write x1 t33 t34 h).bind (fun q36 => (ald 0 x0 (x3 + 1) q36.2).bind (fun t37 => (ald 0 x0 (x3 + 2) q36.2).bind (fun t38 => (rcv 11 x2 q36.2).bind (fun u39 => (f_X13_write x2 t37 t38 q36.2).bind (fun q40 => if q36.1 = q40.1 then ((f_L_law_L18 k) x0 x1 x2 (x3 + 4) q40.2) else (some (0, q40.2))))))))))) else (if (t2 &&& 63) = 6 then ((rcv 0 x1 h).bind (fun u41 => (f_X0_fill x1 h).bind (fun q42 => (rcv 11 x2 q42.2).bind (fun u43 => (f_X13_fill x2 q42.2).bind (fun q44 => if q42.1 = q44.1 then ((f_L_law_L18 k) x0 x1 x2 (x3 + 4) q44.2) else (some (0, q44.2))))))) else (if (t2 &&& 63) = 7 then ((ald 0 x0 (x3 + 1) h).bind (fun t45 => (ald 0 x0 (x3 + 2) h).bind (fun t46 => (rcv 0 x1 h).bind (fun u47 => (f_X0_exchange x1 t45 t46 h).bind (fun q48 => (ald 0 x0 (x3 + 1) q48.2).bind (fun t49 => (ald 0 x0 (x3 + 2) q48.2).bind (fun t50 => (rcv 11 x2 q48.2).bind (fun u51 => (f_X13_exchange x2 t49 t50 q48.2).bind (fun q52 => if q48.1 = q52.1 then ((f_L_law_L18 k) x0 x1 x2 (x3 + 4) q52.2) else (some (0, q52.2))))))))))) else (if (t2 &&& 63) = 8 then ((ald 0 x0 (x3 + 1) h).bind (fun t53 => (ald 0 x0 (x3 + 2) h).bind (fun t54 => (rcv 0 x1 h).bind (fun u55 => (f_X0_give x1 t53 t54 h).bind (fun q56 => (ald 0 x0 (x3 + 1) q56.2).bind (fun t57 => (ald 0 x0 (x3 + 2) q56.2).bind (fun t58 => (rcv 11 x2 q56.2).bind (fun u59 => (f_X13_give x2 t57 t58 q56.2).bind (fun q60 => if q56.1 = q60.1 then ((f_L_law_L18 k) x0 x1 x2 (x3 + 4) q60.2) else (some (0, q60.2))))))))))) else (if (t2 &&& 63) = 9 then ((ald 0 x0 (x3 + 1) h).bind (fun t61 => (ald 0 x0 (x3 + 2) h).bind (fun t62 => (rcv 0 x1 h).bind (fun u63 => (f_X0_showSum x1 t61 t62 h).bind (fun q64 => (ald 0 x0 (x3 + 1) q64.2).bind (fun t65 => (ald 0 x0 (x3 + 2) q64.2).bind (fun t66 => (rcv 11 x2 q64.2).bind (fun u67 => (f_X13_showSum x2 t65 t66 q64.2).bind (fun q68 => if q64.1 = q68.1 then ((f_L_law_L18 k) x0 x1 x2 (x3 + 4) q68.2) else (some (0, q68.2))))))))))) else (if (t2 &&& 63) = 10 then ((ald 0 x0 (x3 + 1) h).bind (fun t69 => (ald 0 x0 (x3 + 2) h).bind (fun t70 => (rcv 0 x1 h).bind (fun u71 => (f_X0_reduce x1 t69 t70 h).bind (fun q72 => (ald 0 x0 (x3 + 1) q72.2).bind (fun t73 => (ald 0 x0 (x3 + 2) q72.2).bind (fun t74 => (rcv 11 x2 q72.2).bind (fun u75 => (f_X13_reduce x2 t73 t74 q72.2).bind (fun q76 => if q72.1 = q76.1 then ((f_L_law_L18 k) x0 x1 x2 (x3 + 4) q76.2) else (some (0, q76.2))))))))))) else (if (t2 &&& 63) = 11 then ((rcv 0 x1 h).bind (fun u77 => (f_X0_support x1 h).bind (fun q78 => (rcv 11 x2 q78.2).bind (fun u79 => (f_X13_support x2 q78.2).bind (fun q80 => if q78.1 = q80.1 then ((f_L_law_L18 k) x0 x1 x2 (x3 + 4) q80.2) else (some (0, q80.2))))))) else (if (t2 &&& 63) = 12 then ((ald 0 x0 (x3 + 1) h).bind (fun t81 => (ald 0 x0 (x3 + 2) h).bind (fun t82 => (rcv 0 x1 h).bind (fun u83 => (f_X0_allow x1 t81 t82 h).bind (fun q84 => (ald 0 x0 (x3 + 1) q84.2).bind (fun t85 => (ald 0 x0 (x3 + 2) q84.2).bind (fun t86 => (rcv 11 x2 q84.2).bind (fun u87 => (f_X13_allow x2 t85 t86 q84.2).bind (fun q88 => if q84.1 = q88.1 then ((f_L_law_L18 k) x0 x1 x2 (x3 + 4) q88.2) else (some (0, q88.2))))))))))) else (if (t2 &&& 63) = 13 then ((ald 0 x0 (x3 + 1) h).bind (fun t89 => (ald 0 x0 (x3 + 2) h).bind (fun t90 => (rcv 0 x1 h).bind (fun u91 => (f_X0_setCost x1 t89 t90 h).bind (fun q92 => (ald 0 x0 (x3 + 1) q92.2).bind (fun t93 => (ald 0 x0 (x3 + 2) q92.2).bind (fun t94 => (rcv 11 x2 q92.2).bind (fun u95 => (f_X13_setCost x2 t93 t94 q92.2).bind (fun q96 => if q92.1 = q96.1 then ((f_L_law_L18 k) x0 x1 x2 (x3 + 4) q96.2) else (some (0, q96.2))))))))))) else (if (t2 &&& 63) = 14 then ((ald 0 x0 (x3 + 1) h).bind (fun t97 => (ald 0 x0 (x3 + 2) h).bind (fun t98 => (rcv 0 x1 h).bind (fun u99 => (f_X0_strike x1 t97 t98 h).bind (fun q100 => (ald 0 x0 (x3 + 1) q100.2).bind (fun t101 => (ald 0 x0 (x3 + 2) q100.2).bind (fun t102 => (rcv 11 x2 q100.2).bind (fun u103 => (f_X13_strike x2 t101 t102 q100.2).bind (fun q104 => if q100.1 = q104.1 then ((f_L_law_L18 k) x0 x1 x2 (x3 + 4) q104.2) else (some (0, q104.2))))))))))) else (if (t2 &&& 63) = 15 then ((ald 0 x0 (x3 + 1) h).bind (fun t105 => (rcv 0 x1 h).bind (fun u106 => (f_X0_advance x1 t105 h).bind (fun q107 => (ald 0 x0 (x3 + 1) q107.2).bind (fun t108 => (rcv 11 x2 q107.2).bind (fun u109 => (f_X13_advance x2 t108 q107.2).bind (fun q110 => if q107.1 = q110.1 then ((f_L_law_L18 k) x0 x1 x2 (x3 + 4) q110.2) else (some (0, q110.2))))))))) else (if (t2 &&& 63) = 16 then ((rcv 0 x1 h).bind (fun u111 => (f_X0_restart x1 h).bind (fun q112 => (rcv 11 x2 q112.2).bind (fun u113 => (f_X13_restart x2 q112.2).bind (fun q114 => if q112.1 = q114.1 then ((f_L_law_L18 k) x0 x1 x2 (x3 + 4) q114.2) else (some (0, q114.2))))))) else (if (t2 &&& 63) = 17 then ((ald 0 x0 (x3 + 1) h).bind (fun t115 => (rcv 0 x1 h).bind (fun u116 => (f_X0_take x1 t115 h).bind (fun q117 => (ald 0 x0 (x3 + 1) q117.2).bind (fun t118 => (rcv 11 x2 q117.2).bind (fun u119 => (f_X13_take x2 t118 q117.2).bind (fun q120 => if q117.1 = q120.1 then ((f_L_law_L18 k) x0 x1 x2 (x3 + 4) q120.2) else (some (0, q120.2))))))))) else (if (t2 &&& 63) = 18 then ((ald 0 x0 (x3 + 1) h).bind (fun t121 => (rcv 0 x1 h).bind (fun u122 => (f_X0_restore x1 t121 h).bind (fun q123 => (ald 0 x0 (x3 + 1) q123.2).bind (fun t124 => (rcv 11 x2 q123.2).bind (fun u125 => (f_X13_restore x2 t124 q123.2).bind (fun q126 => if q123.1 = q126.1 then ((f_L_law_L18 k) x0 x1 x2 (x3 + 4) q126.2) else (some (0, q126.2))))))))) else (if (t2 &&& 63) = 19 then ((rcv 0 x1 h).bind (fun u127 => (f_X0_undo x1 h).bind (fun q128 => (rcv 11 x2 q128.2).bind (fun u129 => (f_X13_undo x2 q128.2).bind (fun q130 => if q128.1 = q130.1 then ((f_L_law_L18 k) x0 x1 x2 (x3 + 4) q130.2) else (some (0, q130.2))))))) else (if (t2 &&& 63) = 20 then ((ald 0 x0 (x3 + 1) h).bind (fun t131 => (rcv 0 x1 h).bind (fun u132 => (f_X0_append x1 t131 h).bind (fun q133 => (ald 0 x0 (x3 + 1) q133.2).bind (fun t134 => (rcv 11 x2 q133.2).bind (fun u135 => (f_X13_append x2 t134 q133.2).bind (fun q136 => if q133.1 = q136.1 then ((f_L_law_L18 k) x0 x1 x2 (x3 + 4) q136.2) else (some (0, q136.2))))))))) else (if (t2 &&& 63) = 21 then ((rcv 0 x1 h).bind (fun u137 => (f_X0_clearText x1 h).bind (fun q138 => (rcv 11 x2 q138.2).bind (fun u139 => (f_X13_clearText x2 q138.2).bind (fun q140 => if q138.1 = q140.1 then ((f_L_law_L18 k) x0 x1 x2 (x3 + 4) q140.2) else (some (0, q140.2))))))) else (if (t2 &&& 63) = 22 then ((rcv 0 x1 h).bind (fun u141 => (f_X0_load x1 h).bind (fun q142 => (rcv 11 x2 q142.2).bind (fun u143 => (f_X13_load x2 q142.2).bind (fun q144 => if q142.1 = q144.1 then ((f_L_law_L18 k) x0 x1 x2 (x3 + 4) q144.2) else (some (0, q144.2))))))) else (if (t2 &&& 63) = 23 then ((ald 0 x0 (x3 + 1) h).bind (fun t145 => (rcv 0 x1 h).bind (fun u146 => (f_X0_count x1 t145 h).bind (fun q147 => (ald 0 x0 (x3 + 1) q147.2).bind (fun t148 => (rcv 11 x2 q147.2).bind (fun u149 => (f_X13_count x2 t148 q147.2).bind (fun q150 => if q147.1 = q150.1 then ((f_L_law_L18 k) x0 x1 x2 (x3 + 4) q150.2) else (some (0, q150.2))))))))) else (if (t2 &&& 63) = 24 then ((ald 0 x0 (x3 + 1) h).bind (fun t151 => (ald 0 x0 (x3 + 2) h).bind (fun t152 => (rcv 0 x1 h).bind (fun u153 => (f_X0_cell x1 t151 t152 h).bind (fun q154 => (ald 0 x0 (x3 + 1) q154.2).bind (fun t155 => (ald 0 x0 (x3 + 2) q154.2).bind (fun t156 => (rcv 11 x2 q154.2).bind (fun u157 => (f_X13_cell x2 t155 t156 q154.2).bind (fun q158 => if q154.1 = q158.1 then ((f_L_law_L18 k) x0 x1 x2 (x3 + 4) q158.2) else (some (0, q158.2))))))))))) else (if (t2 &&& 63) = 25 then ((ald 0 x0 (x3 + 1) h).bind (fun t159 => (ald 0 x0 (x3 + 2) h).bind (fun t160 => (rcv 0 x1 h).bind (fun u161 => (f_X0_line x1 t159 t160 h).bind (fun q162 => (ald 0 x0 (x3 + 1) q162.2).bind (fun t163 => (ald 0 x0 (x3 + 2) q162.2).bind (fun t164 => (rcv 11 x2 q162.2).bind (fun u165 => (f_X13_line x2 t163 t164 q162.2).bind (fun q166 => if q162.1 = q166.1 then ((f_L_law_L18 k) x0 x1 x2 (x3 + 4) q166.2) else (some (0, q166.2))))))))))) else (if (t2 &&& 63) = 26 then ((ald 0 x0 (x3 + 1) h).bind (fun t167 => (ald 0 x0 (x3 + 2) h).bind (fun t168 => (rcv 0 x1 h).bind (fun u169 => (f_X0_block x1 t167 t168 h).bind (fun q170 => (ald 0 x0 (x3 + 1) q170.2).bind (fun t171 => (ald 0 x0 (x3 + 2) q170.2).bind (fun t172 => (rcv 11 x2 q170.2).bind (fun u173 => (f_X13_block x2 t171 t172 q170.2).bind (fun q174 => if q170.1 = q174.1 then ((f_L_law_L18 k) x0 x1 x2 (x3 + 4) q174.2) else (some (0, q174.2))))))))))) else (if (t2 &&& 63) = 27 then ((ald 0 x0 (x3 + 1) h).bind (fun t175 => (ald 0 x0 (x3 + 2) h).bind (fun t176 => (rcv 0 x1 h).bind (fun u177 => (f_X0_rule x1 t175 t176 h).bind (fun q178 => (ald 0 x0 (x3 + 1) q178.2).bind (fun t179 => (ald 0 x0 (x3 + 2) q178.2).bind (fun t180 => (rcv 11 x2 q178.2).bind (fun u181 => (f_X13_rule x2 t179 t180 q178.2).bind (fun q182 => if q178.1 = q182.1 then ((f_L_law_L18 k) x0 x1 x2 (x3 + 4) q182.2) else (some (0, q182.2))))))))))) else (if (t2 &&& 63) = 28 then ((ald 0 x0 (x3 + 1) h).bind (fun t183 => (ald 0 x0 (x3 + 2) h).bind (fun t184 => (rcv 0 x1 h).bind (fun u185 => (f_X0_possible x1 t183 t184 h).bind (fun q186 => (ald 0 x0 (x3 + 1) q186.2).bind (fun t187 => (ald 0 x0 (x3 + 2) q186.2).bind (fun t188 => (rcv 11 x2 q186.2).bind (fun u189 => (f_X13_possible x2 t187 t188 q186.2).bind (fun q190 => if q186.1 = q190.1 then ((f_L_law_L18 k) x0 x1 x2 (x3 + 4) q190.2) else (some (0, q190.2))))))))))) else (if (t2 &&& 63) = 29 then ((ald 0 x0 (x3 + 1) h).bind (fun t191 => (ald 0 x0 (x3 + 2) h).bind (fun t192 => (ald 0 x0 (x3 + 3) h).bind (fun t193 => (rcv 0 x1 h).bind (fun u194 => (f_X0_why x1 t191 t192 t193 h).bind (fun q195 => (ald 0 x0 (x3 + 1) q195.2).bind (fun t196 => (ald 0 x0 (x3 + 2) q195.2).bind (fun t197 => (ald 0 x0 (x3 + 3) q195.2).bind (fun t198 => (rcv 11 x2 q195.2).bind (fun u199 => (f_X13_why x2 t196 t197 t198 q195.2).bind (fun q200 => if q195.1 = q200.1 then ((f_L_law_L18 k) x0 x1 x2 (x3 + 4) q200.2) else (some (0, q200.2))))))))))))) else (if (t2 &&& 63) = 30 then ((ald 0 x0 (x3 + 1) h).bind (fun t201 => (rcv 0 x1 h).bind (fun u202 => (f_X0_next x1 t201 h).bind (fun q203 => (ald 0 x0 (x3 + 1) q203.2).bind (fun t204 => (rcv 11 x2 q203.2).bind (fun u205 => (f_X13_next x2 t204 q203.2).bind (fun q206 => if q203.1 = q206.1 then ((f_L_law_L18 k) x0 x1 x2 (x3 + 4) q206.2) else (some (0, q206.2))))))))) else (if (t2 &&& 63) = 31 then ((ald 0 x0 (x3 + 1) h).bind (fun t207 => (rcv 0 x1 h).bind (fun u208 => (f_X0_run x1 t207 h).bind (fun q209 => (ald 0 x0 (x3 + 1) q209.2).bind (fun t210 => (rcv 11 x2 q209.2).bind (fun u211 => (f_X13_run x2 t210 q209.2).bind (fun q212 => if q209.1 = q212.1 then ((f_L_law_L18 k) x0 x1 x2 (x3 + 4) q212.2) else (some (0, q212.2))))))))) else (if (t2 &&& 63) = 32 then ((ald 0 x0 (x3 + 1) h).bind (fun t213 => (ald 0 x0 (x3 + 2) h).bind (fun t214 => (rcv 0 x1 h).bind (fun u215 => (f_X0_step x1 t213 t214 h).bind (fun q216 => (ald 0 x0 (x3 + 1) q216.2).bind (fun t217 => (ald 0 x0 (x3 + 2) q216.2).bind (fun t218 => (rcv 11 x2 q216.2).bind (fun u219 => (f_X13_step x2 t217 t218 q216.2).bind (fun q220 => if q216.1 = q220.1 then ((f_L_law_L18 k) x0 x1 x2 (x3 + 4) q220.2) else (some (0, q220.2))))))))))) else (if (t2 &&& 63) = 33 then ((ald 0 x0 (x3 + 1) h).bind (fun t221 => (rcv 0 x1 h).bind (fun u222 => (f_X0_rank x1 t221 h).bind (fun q223 => (ald 0 x0 (x3 + 1) q223.2).bind (fun t224 => (rcv 11 x2 q223.2).bind (fun u225 => (f_X13_rank x2 t224 q223.2).bind (fun q226 => if q223.1 = q226.1 then ((f_L_law_L18 k) x0 x1 x2 (x3 + 4) q226.2) else (some (0, q226.2))))))))) else (if (t2 &&& 63) = 34 then ((ald 0 x0 (x3 + 1) h).bind (fun t227 => (ald 0 x0 (x3 + 2) h).bind (fun t228 => (ald 0 x0 (x3 + 3) h).bind (fun t229 => (rcv 0 x1 h).bind (fun u230 => (f_X0_suppose x1 t227 t228 t229 h).bind (fun q231 => (ald 0 x0 (x3 + 1) q231.2).bind (fun t232 => (ald 0 x0 (x3 + 2) q231.2).bind (fun t233 => (ald 0 x0 (x3 + 3) q231.2).bind (fun t234 => (rcv 11 x2 q231.2).bind (fun u235 => (f_X13_suppose x2 t232 t233 t234 q231.2).bind (fun q236 => if q231.1 = q236.1 then ((f_L_law_L18 k) x0 x1 x2 (x3 + 4) q236.2) else (some (0, q236.2))))))))))))) else (if (t2 &&& 63) = 35 then ((ald 0 x0 (x3 + 1) h).bind (fun t237 => (ald 0 x0 (x3 + 2) h).bind (fun t238 => (rcv 0 x1 h).bind (fun u239 => (f_X0_needed x1 t237 t238 h).bind (fun q240 => (ald 0 x0 (x3 + 1) q240.2).bind (fun t241 => (ald 0 x0 (x3 + 2) q240.2).bind (fun t242 => (rcv 11 x2 q240.2).bind (fun u243 => (f_X13_needed x2 t241 t242 q240.2).bind (fun q244 => if q240.1 = q244.1 then ((f_L_law_L18 k) x0 x1 x2 (x3 + 4) q244.2) else (some (0, q244.2))))))))))) else (if (t2 &&& 63) = 36 then ((rcv 0 x1 h).bind (fun u245 => (f_X0_enough x1 h).bind (fun q246 => (rcv 11 x2 q246.2).bind (fun u247 => (f_X13_enough x2 q246.2).bind (fun q248 => if q246.1 = q248.1 then ((f_L_law_L18 k) x0 x1 x2 (x3 + 4) q248.2) else (some (0, q248.2))))))) else (if (t2 &&& 63) = 37 then ((ald 0 x0 (x3 + 1) h).bind (fun t249 => (ald 0 x0 (x3 + 2) h).bind (fun t250 => (rcv 0 x1 h).bind (fun u251 => (f_X0_printed x1 t249 t250 h).bind (fun q252 => (ald 0 x0 (x3 + 1) q252.2).bind (fun t253 => (ald 0 x0 (x3 + 2) q252.2).bind (fun t254 => (rcv 11 x2 q252.2).bind (fun u255 => (f_X13_printed x2 t253 t254 q252.2).bind (fun q256 => if q252.1 = q256.1 then ((f_L_law_L18 k) x0 x1 x2 (x3 + 4) q256.2) else (some (0, q256.2))))))))))) else ((f_L_law_L18 k) x0 x1 x2 (x3 + 4) h)))))))))))))))))))))))))))))))))))))))))
theorem f_L_law_L18_ok {K : KT} {h0 : PH} {a0 : List Value} {q : (Int32 × PH)}  : ∀ (k : Nat) (x0 : Option Nat) (x1 : Option Nat) (x2 : Option Nat) (x3 : Int32) (h : PH), f_L_law_L18  k x0 x1 x2 x3 h = some q → R K mi_L_law h0 a0 (.inl (some (.int q.1))) q.2 18 [(0, va_rf x0), (1, va_rf x1), (2, va_rf x2), (3, .int x3)] [] h := by
  intro k
  induction k with
  | zero => intro _ _ _ _ _ hf; cases hf
  | succ k ih =>
    intro x0 x1 x2 x3 h hf
    unfold f_L_law_L18 at hf
    refine R_iload_n 3 dL_law_18 rfl rfl ?_
    refine R_aload_n 0 dL_law_19 rfl rfl ?_
    obtain ⟨t1, et1, hf⟩ := Option.bind_eq_some_iff.mp hf
    refine R_alen et1 dL_law_20 ?_
    refine R_iconst dL_law_21 k_iconst_4 ?_
    refine R_isub dL_law_22 ?_
    refine R_icgt (tgt := 1210) dL_law_23 (by decide) (fun hc => ?_) (fun hc => ?_)
    · rw [if_pos hc] at hf
      refine R_iconst dL_law_1210 k_iconst_1 ?_
      obtain rfl := Option.some.inj hf
      exact R_iretZ1 rfl dL_law_1211
    · rw [if_neg hc] at hf
      refine R_aload_n 0 dL_law_26 rfl rfl ?_
      refine R_iload_n 3 dL_law_27 rfl rfl ?_
      obtain ⟨t2, et2, hf⟩ := Option.bind_eq_some_iff.mp hf
      refine R_iaload et2 dL_law_28 ?_
      refine R_bipush dL_law_29 k_bipush_63 ?_
      refine R_iand dL_law_31 ?_
      by_cases hc0 : (t2 &&& 63) = 0
      · rw [if_pos hc0] at hf
        refine R_tswIn (tgt := 200) dL_law_32 (by rw [hc0]; decide) (by rw [hc0]; decide) (by rw [hc0]; rfl) (by decide) ?_
        refine R_aload_n 1 dL_law_200 rfl rfl ?_
        refine R_aload_n 0 dL_law_201 rfl rfl ?_
        refine R_iload_n 3 dL_law_202 rfl rfl ?_
        refine R_iconst dL_law_203 k_iconst_1 ?_
        refine R_iadd dL_law_204 ?_
        obtain ⟨t3, et3, hf⟩ := Option.bind_eq_some_iff.mp hf
        refine R_iaload et3 dL_law_205 ?_
        refine R_aload_n 0 dL_law_206 rfl rfl ?_
        refine R_iload_n 3 dL_law_207 rfl rfl ?_
        refine R_iconst dL_law_208 k_iconst_2 ?_
        refine R_iadd dL_law_209 ?_
        obtain ⟨t4, et4, hf⟩ := Option.bind_eq_some_iff.mp hf
        refine R_iaload et4 dL_law_210 ?_
        obtain ⟨u5, eu5, hf⟩ := Option.bind_eq_some_iff.mp hf
        obtain ⟨q6, eq6, hf⟩ := Option.bind_eq_some_iff.mp hf
        refine R_callV (mj := mi_X0_setPage) (ci := 0) (q := (RX0, TX0, 4)) (As := [.int t3, .int t4]) (rest := []) (T_X0_setPage eq6) eu5 rfl lV_L_13 ⟨rfl, oky_X0_setPage⟩ (by decide) (by decide) rfl C1_0 (Nat.le_of_ble_eq_true rfl) dL_law_211 ?_
        refine R_aload_n 2 dL_law_214 rfl rfl ?_
        refine R_aload_n 0 dL_law_215 rfl rfl ?_
        refine R_iload_n 3 dL_law_216 rfl rfl ?_
        refine R_iconst dL_law_217 k_iconst_1 ?_
        refine R_iadd dL_law_218 ?_
        obtain ⟨t7, et7, hf⟩ := Option.bind_eq_some_iff.mp hf
        refine R_iaload et7 dL_law_219 ?_
        refine R_aload_n 0 dL_law_220 rfl rfl ?_
        refine R_iload_n 3 dL_law_221 rfl rfl ?_
        refine R_iconst dL_law_222 k_iconst_2 ?_
        refine R_iadd dL_law_223 ?_
        obtain ⟨t8, et8, hf⟩ := Option.bind_eq_some_iff.mp hf
        refine R_iaload et8 dL_law_224 ?_
        obtain ⟨u9, eu9, hf⟩ := Option.bind_eq_some_iff.mp hf
        obtain ⟨q10, eq10, hf⟩ := Option.bind_eq_some_iff.mp hf
        refine R_callV (mj := mi_X13_setPage) (ci := 11) (q := (RX13, TX13, 24)) (As := [.int t7, .int t8]) (rest := [.int q6.1]) (T_X13_setPage eq10) eu9 rfl lV_L_17 ⟨rfl, oky_X13_setPage⟩ (by decide) (by decide) rfl (C1_i C1_0) (Nat.le_of_ble_eq_true rfl) dL_law_225 ?_
        refine R_iceq (tgt := 1204) dL_law_228 (by decide) (fun hc => ?_) (fun hc => ?_)
        · rw [if_pos hc] at hf
          refine R_iinc (L' := [(3, .int (x3 + 4)), (0, va_rf x0), (1, va_rf x1), (2, va_rf x2)]) 3 dL_law_1204 rfl (k_inc_4 _) (by decide) rfl ?_
          refine R_goto (tgt := 18) dL_law_1207 (by decide) ?_
          refine R.sub [1, 2, 3, 0] (L' := [(0, va_rf x0), (1, va_rf x1), (2, va_rf x2), (3, .int (x3 + 4))]) rfl ?_
          exact ih x0 x1 x2 (x3 + 4) q10.2 hf
        · rw [if_neg hc] at hf
          refine R_iconst dL_law_231 k_iconst_0 ?_
          obtain rfl := Option.some.inj hf
          exact R_iretZ0 rfl dL_law_232
      · rw [if_neg hc0] at hf
        by_cases hc1 : (t2 &&& 63) = 1
        · rw [if_pos hc1] at hf
          refine R_tswIn (tgt := 233) dL_law_32 (by rw [hc1]; decide) (by rw [hc1]; decide) (by rw [hc1]; rfl) (by decide) ?_
          refine R_aload_n 1 dL_law_233 rfl rfl ?_
          refine R_aload_n 0 dL_law_234 rfl rfl ?_
          refine R_iload_n 3 dL_law_235 rfl rfl ?_
          refine R_iconst dL_law_236 k_iconst_1 ?_
          refine R_iadd dL_law_237 ?_
          obtain ⟨t11, et11, hf⟩ := Option.bind_eq_some_iff.mp hf
          refine R_iaload et11 dL_law_238 ?_
          refine R_aload_n 0 dL_law_239 rfl rfl ?_
          refine R_iload_n 3 dL_law_240 rfl rfl ?_
          refine R_iconst dL_law_241 k_iconst_2 ?_
          refine R_iadd dL_law_242 ?_
          obtain ⟨t12, et12, hf⟩ := Option.bind_eq_some_iff.mp hf
          refine R_iaload et12 dL_law_243 ?_
          obtain ⟨u13, eu13, hf⟩ := Option.bind_eq_some_iff.mp hf
          obtain ⟨q14, eq14, hf⟩ := Option.bind_eq_some_iff.mp hf
          refine R_callV (mj := mi_X0_moveCell) (ci := 0) (q := (RX0, TX0, 4)) (As := [.int t11, .int t12]) (rest := []) (T_X0_moveCell eq14) eu13 rfl lV_L_18 ⟨rfl, oky_X0_moveCell⟩ (by decide) (by decide) rfl C1_0 (Nat.le_of_ble_eq_true rfl) dL_law_244 ?_
          refine R_aload_n 2 dL_law_247 rfl rfl ?_
          refine R_aload_n 0 dL_law_248 rfl rfl ?_
          refine R_iload_n 3 dL_law_249 rfl rfl ?_
          refine R_iconst dL_law_250 k_iconst_1 ?_
          refine R_iadd dL_law_251 ?_
          obtain ⟨t15, et15, hf⟩ := Option.bind_eq_some_iff.mp hf
          refine R_iaload et15 dL_law_252 ?_
          refine R_aload_n 0 dL_law_253 rfl rfl ?_
          refine R_iload_n 3 dL_law_254 rfl rfl ?_
          refine R_iconst dL_law_255 k_iconst_2 ?_
          refine R_iadd dL_law_256 ?_
          obtain ⟨t16, et16, hf⟩ := Option.bind_eq_some_iff.mp hf
          refine R_iaload et16 dL_law_257 ?_
          obtain ⟨u17, eu17, hf⟩ := Option.bind_eq_some_iff.mp hf
          obtain ⟨q18, eq18, hf⟩ := Option.bind_eq_some_iff.mp hf
          refine R_callV (mj := mi_X13_moveCell) (ci := 11) (q := (RX13, TX13, 24)) (As := [.int t15, .int t16]) (rest := [.int q14.1]) (T_X13_moveCell eq18) eu17 rfl lV_L_21 ⟨rfl, oky_X13_moveCell⟩ (by decide) (by decide) rfl (C1_i C1_0) (Nat.le_of_ble_eq_true rfl) dL_law_258 ?_
          refine R_iceq (tgt := 1204) dL_law_261 (by decide) (fun hc => ?_) (fun hc => ?_)
          · rw [if_pos hc] at hf
            refine R_iinc (L' := [(3, .int (x3 + 4)), (0, va_rf x0), (1, va_rf x1), (2, va_rf x2)]) 3 dL_law_1204 rfl (k_inc_4 _) (by decide) rfl ?_
            refine R_goto (tgt := 18) dL_law_1207 (by decide) ?_
            refine R.sub [1, 2, 3, 0] (L' := [(0, va_rf x0), (1, va_rf x1), (2, va_rf x2), (3, .int (x3 + 4))]) rfl ?_
            exact ih x0 x1 x2 (x3 + 4) q18.2 hf
          · rw [if_neg hc] at hf
            refine R_iconst dL_law_264 k_iconst_0 ?_
            obtain rfl := Option.some.inj hf
            exact R_iretZ0 rfl dL_law_265
        · rw [if_neg hc1] at hf
          by_cases hc2 : (t2 &&& 63) = 2
          · rw [if_pos hc2] at hf
            refine R_tswIn (tgt := 266) dL_law_32 (by rw [hc2]; decide) (by rw [hc2]; decide) (by rw [hc2]; rfl) (by decide) ?_
            refine R_aload_n 1 dL_law_266 rfl rfl ?_
            refine R_aload_n 0 dL_law_267 rfl rfl ?_
            refine R_iload_n 3 dL_law_268 rfl rfl ?_
            refine R_iconst dL_law_269 k_iconst_1 ?_
            refine R_iadd dL_law_270 ?_
            obtain ⟨t19, et19, hf⟩ := Option.bind_eq_some_iff.mp hf
            refine R_iaload et19 dL_law_271 ?_
            obtain ⟨u20, eu20, hf⟩ := Option.bind_eq_some_iff.mp hf
            obtain ⟨q21, eq21, hf⟩ := Option.bind_eq_some_iff.mp hf
            refine R_callV (mj := mi_X0_splitCell) (ci := 0) (q := (RX0, TX0, 4)) (As := [.int t19]) (rest := []) (T_X0_splitCell eq21) eu20 rfl lV_L_22 ⟨rfl, oky_X0_splitCell⟩ (by decide) (by decide) rfl C1_0 (Nat.le_of_ble_eq_true rfl) dL_law_272 ?_
            refine R_aload_n 2 dL_law_275 rfl rfl ?_
            refine R_aload_n 0 dL_law_276 rfl rfl ?_
            refine R_iload_n 3 dL_law_277 rfl rfl ?_
            refine R_iconst dL_law_278 k_iconst_1 ?_
            refine R_iadd dL_law_279 ?_
            obtain ⟨t22, et22, hf⟩ := Option.bind_eq_some_iff.mp hf
            refine R_iaload et22 dL_law_280 ?_
            obtain ⟨u23, eu23, hf⟩ := Option.bind_eq_some_iff.mp hf
            obtain ⟨q24, eq24, hf⟩ := Option.bind_eq_some_iff.mp hf
            refine R_callV (mj := mi_X13_splitCell) (ci := 11) (q := (RX13, TX13, 24)) (As := [.int t22]) (rest := [.int q21.1]) (T_X13_splitCell eq24) eu23 rfl lV_L_26 ⟨rfl, oky_X13_splitCell⟩ (by decide) (by decide) rfl (C1_i C1_0) (Nat.le_of_ble_eq_true rfl) dL_law_281 ?_
            refine R_iceq (tgt := 1204) dL_law_284 (by decide) (fun hc => ?_) (fun hc => ?_)
            · rw [if_pos hc] at hf
              refine R_iinc (L' := [(3, .int (x3 + 4)), (0, va_rf x0), (1, va_rf x1), (2, va_rf x2)]) 3 dL_law_1204 rfl (k_inc_4 _) (by decide) rfl ?_
              refine R_goto (tgt := 18) dL_law_1207 (by decide) ?_
              refine R.sub [1, 2, 3, 0] (L' := [(0, va_rf x0), (1, va_rf x1), (2, va_rf x2), (3, .int (x3 + 4))]) rfl ?_
              exact ih x0 x1 x2 (x3 + 4) q24.2 hf
            · rw [if_neg hc] at hf
              refine R_iconst dL_law_287 k_iconst_0 ?_
              obtain rfl := Option.some.inj hf
              exact R_iretZ0 rfl dL_law_288
          · rw [if_neg hc2] at hf
            by_cases hc3 : (t2 &&& 63) = 3
            · rw [if_pos hc3] at hf
              refine R_tswIn (tgt := 289) dL_law_32 (by rw [hc3]; decide) (by rw [hc3]; decide) (by rw [hc3]; rfl) (by decide) ?_
              refine R_aload_n 1 dL_law_289 rfl rfl ?_
              obtain ⟨u25, eu25, hf⟩ := Option.bind_eq_some_iff.mp hf
              obtain ⟨q26, eq26, hf⟩ := Option.bind_eq_some_iff.mp hf
              refine R_callV (mj := mi_X0_mirror) (ci := 0) (q := (RX0, TX0, 4)) (As := []) (rest := []) (T_X0_mirror eq26) eu25 rfl lV_L_27 ⟨rfl, oky_X0_mirror⟩ (by decide) (by decide) rfl C1_0 (Nat.le_of_ble_eq_true rfl) dL_law_290 ?_
              refine R_aload_n 2 dL_law_293 rfl rfl ?_
              obtain ⟨u27, eu27, hf⟩ := Option.bind_eq_some_iff.mp hf
              obtain ⟨q28, eq28, hf⟩ := Option.bind_eq_some_iff.mp hf
              refine R_callV (mj := mi_X13_mirror) (ci := 11) (q := (RX13, TX13, 24)) (As := []) (rest := [.int q26.1]) (T_X13_mirror eq28) eu27 rfl lV_L_31 ⟨rfl, oky_X13_mirror⟩ (by decide) (by decide) rfl (C1_i C1_0) (Nat.le_of_ble_eq_true rfl) dL_law_294 ?_
              refine R_iceq (tgt := 1204) dL_law_297 (by decide) (fun hc => ?_) (fun hc => ?_)
              · rw [if_pos hc] at hf
                refine R_iinc (L' := [(3, .int (x3 + 4)), (0, va_rf x0), (1, va_rf x1), (2, va_rf x2)]) 3 dL_law_1204 rfl (k_inc_4 _) (by decide) rfl ?_
                refine R_goto (tgt := 18) dL_law_1207 (by decide) ?_
                refine R.sub [1, 2, 3, 0] (L' := [(0, va_rf x0), (1, va_rf x1), (2, va_rf x2), (3, .int (x3 + 4))]) rfl ?_
                exact ih x0 x1 x2 (x3 + 4) q28.2 hf
              · rw [if_neg hc] at hf
                refine R_iconst dL_law_300 k_iconst_0 ?_
                obtain rfl := Option.some.inj hf
                exact R_iretZ0 rfl dL_law_301
            · rw [if_neg hc3] at hf
              by_cases hc4 : (t2 &&& 63) = 4
              · rw [if_pos hc4] at hf
                refine R_tswIn (tgt := 302) dL_law_32 (by rw [hc4]; decide) (by rw [hc4]; decide) (by rw [hc4]; rfl) (by decide) ?_
                refine R_aload_n 1 dL_law_302 rfl rfl ?_
                obtain ⟨u29, eu29, hf⟩ := Option.bind_eq_some_iff.mp hf
                obtain ⟨q30, eq30, hf⟩ := Option.bind_eq_some_iff.mp hf
                refine R_callV (mj := mi_X0_turn) (ci := 0) (q := (RX0, TX0, 4)) (As := []) (rest := []) (T_X0_turn eq30) eu29 rfl lV_L_32 ⟨rfl, oky_X0_turn⟩ (by decide) (by decide) rfl C1_0 (Nat.le_of_ble_eq_true rfl) dL_law_303 ?_
                refine R_aload_n 2 dL_law_306 rfl rfl ?_
                obtain ⟨u31, eu31, hf⟩ := Option.bind_eq_some_iff.mp hf
                obtain ⟨q32, eq32, hf⟩ := Option.bind_eq_some_iff.mp hf
                refine R_callV (mj := mi_X13_turn) (ci := 11) (q := (RX13, TX13, 24)) (As := []) (rest := [.int q30.1]) (T_X13_turn eq32) eu31 rfl lV_L_35 ⟨rfl, oky_X13_turn⟩ (by decide) (by decide) rfl (C1_i C1_0) (Nat.le_of_ble_eq_true rfl) dL_law_307 ?_
                refine R_iceq (tgt := 1204) dL_law_310 (by decide) (fun hc => ?_) (fun hc => ?_)
                · rw [if_pos hc] at hf
                  refine R_iinc (L' := [(3, .int (x3 + 4)), (0, va_rf x0), (1, va_rf x1), (2, va_rf x2)]) 3 dL_law_1204 rfl (k_inc_4 _) (by decide) rfl ?_
                  refine R_goto (tgt := 18) dL_law_1207 (by decide) ?_
                  refine R.sub [1, 2, 3, 0] (L' := [(0, va_rf x0), (1, va_rf x1), (2, va_rf x2), (3, .int (x3 + 4))]) rfl ?_
                  exact ih x0 x1 x2 (x3 + 4) q32.2 hf
                · rw [if_neg hc] at hf
                  refine R_iconst dL_law_313 k_iconst_0 ?_
                  obtain rfl := Option.some.inj hf
                  exact R_iretZ0 rfl dL_law_314
              · rw [if_neg hc4] at hf
                by_cases hc5 : (t2 &&& 63) = 5
                · rw [if_pos hc5] at hf
                  refine R_tswIn (tgt := 315) dL_law_32 (by rw [hc5]; decide) (by rw [hc5]; decide) (by rw [hc5]; rfl) (by decide) ?_
                  refine R_aload_n 1 dL_law_315 rfl rfl ?_
                  refine R_aload_n 0 dL_law_316 rfl rfl ?_
                  refine R_iload_n 3 dL_law_317 rfl rfl ?_
                  refine R_iconst dL_law_318 k_iconst_1 ?_
                  refine R_iadd dL_law_319 ?_
                  obtain ⟨t33, et33, hf⟩ := Option.bind_eq_some_iff.mp hf
                  refine R_iaload et33 dL_law_320 ?_
                  refine R_aload_n 0 dL_law_321 rfl rfl ?_
                  refine R_iload_n 3 dL_law_322 rfl rfl ?_
                  refine R_iconst dL_law_323 k_iconst_2 ?_
                  refine R_iadd dL_law_324 ?_
                  obtain ⟨t34, et34, hf⟩ := Option.bind_eq_some_iff.mp hf
                  refine R_iaload et34 dL_law_325 ?_
                  obtain ⟨u35, eu35, hf⟩ := Option.bind_eq_some_iff.mp hf
                  obtain ⟨q36, eq36, hf⟩ := Option.bind_eq_some_iff.mp hf
                  refine R_callV (mj := mi_X0_write) (ci := 0) (q := (RX0, TX0, 4)) (As := [.int t33, .int t34]) (rest := []) (T_X0_write eq36) eu35 rfl lV_L_36 ⟨rfl, oky_X0_write⟩ (by decide) (by decide) rfl C1_0 (Nat.le_of_ble_eq_true rfl) dL_law_326 ?_
                  refine R_aload_n 2 dL_law_329 rfl rfl ?_
                  refine R_aload_n 0 dL_law_330 rfl rfl ?_
                  refine R_iload_n 3 dL_law_331 rfl rfl ?_
                  refine R_iconst dL_law_332 k_iconst_1 ?_
                  refine R_iadd dL_law_333 ?_
                  obtain ⟨t37, et37, hf⟩ := Option.bind_eq_some_iff.mp hf
                  refine R_iaload et37 dL_law_334 ?_
                  refine R_aload_n 0 dL_law_335 rfl rfl ?_
                  refine R_iload_n 3 dL_law_336 rfl rfl ?_
                  refine R_iconst dL_law_337 k_iconst_2 ?_
                  refine R_iadd dL_law_338 ?_
                  obtain ⟨t38, et38, hf⟩ := Option.bind_eq_some_iff.mp hf
                  refine R_iaload et38 dL_law_339 ?_
                  obtain ⟨u39, eu39, hf⟩ := Option.bind_eq_some_iff.mp hf
                  obtain ⟨q40, eq40, hf⟩ := Option.bind_eq_some_iff.mp hf
                  refine R_callV (mj := mi_X13_write) (ci := 11) (q := (RX13, TX13, 24)) (As := [.int t37, .int t38]) (rest := [.int q36.1]) (T_X13_write eq40) eu39 rfl lV_L_39 ⟨rfl, oky_X13_write⟩ (by decide) (by decide) rfl (C1_i C1_0) (Nat.le_of_ble_eq_true rfl) dL_law_340 ?_
                  refine R_iceq (tgt := 1204) dL_law_343 (by decide) (fun hc => ?_) (fun hc => ?_)
                  · rw [if_pos hc] at hf
                    refine R_iinc (L' := [(3, .int (x3 + 4)), (0, va_rf x0), (1, va_rf x1), (2, va_rf x2)]) 3 dL_law_1204 rfl (k_inc_4 _) (by decide) rfl ?_
                    refine R_goto (tgt := 18) dL_law_1207 (by decide) ?_
                    refine R.sub [1, 2, 3, 0] (L' := [(0, va_rf x0), (1, va_rf x1), (2, va_rf x2), (3, .int (x3 + 4))]) rfl ?_
                    exact ih x0 x1 x2 (x3 + 4) q40.2 hf
                  · rw [if_neg hc] at hf
                    refine R_iconst dL_law_346 k_iconst_0 ?_
                    obtain rfl := Option.some.inj hf
                    exact R_iretZ0 rfl dL_law_347
                · rw [if_neg hc5] at hf
                  by_cases hc6 : (t2 &&& 63) = 6
                  · rw [if_pos hc6] at hf
                    refine R_tswIn (tgt := 348) dL_law_32 (by rw [hc6]; decide) (by rw [hc6]; decide) (by rw [hc6]; rfl) (by decide) ?_
                    refine R_aload_n 1 dL_law_348 rfl rfl ?_
                    obtain ⟨u41, eu41, hf⟩ := Option.bind_eq_some_iff.mp hf
                    obtain ⟨q42, eq42, hf⟩ := Option.bind_eq_some_iff.mp hf
                    refine R_callV (mj := mi_X0_fill) (ci := 0) (q := (RX0, TX0, 4)) (As := []) (rest := []) (T_X0_fill eq42) eu41 rfl lV_L_40 ⟨rfl, oky_X0_fill⟩ (by decide) (by decide) rfl C1_0 (Nat.le_of_ble_eq_true rfl) dL_law_349 ?_
                    refine R_aload_n 2 dL_law_352 rfl rfl ?_
                    obtain ⟨u43, eu43, hf⟩ := Option.bind_eq_some_iff.mp hf
                    obtain ⟨q44, eq44, hf⟩ := Option.bind_eq_some_iff.mp hf
                    refine R_callV (mj := mi_X13_fill) (ci := 11) (q := (RX13, TX13, 24)) (As := []) (rest := [.int q42.1]) (T_X13_fill eq44) eu43 rfl lV_L_43 ⟨rfl, oky_X13_fill⟩ (by decide) (by decide) rfl (C1_i C1_0) (Nat.le_of_ble_eq_true rfl) dL_law_353 ?_
                    refine R_iceq (tgt := 1204) dL_law_356 (by decide) (fun hc => ?_) (fun hc => ?_)
                    · rw [if_pos hc] at hf
                      refine R_iinc (L' := [(3, .int (x3 + 4)), (0, va_rf x0), (1, va_rf x1), (2, va_rf x2)]) 3 dL_law_1204 rfl (k_inc_4 _) (by decide) rfl ?_
                      refine R_goto (tgt := 18) dL_law_1207 (by decide) ?_
                      refine R.sub [1, 2, 3, 0] (L' := [(0, va_rf x0), (1, va_rf x1), (2, va_rf x2), (3, .int (x3 + 4))]) rfl ?_
                      exact ih x0 x1 x2 (x3 + 4) q44.2 hf
                    · rw [if_neg hc] at hf
                      refine R_iconst dL_law_359 k_iconst_0 ?_
                      obtain rfl := Option.some.inj hf
                      exact R_iretZ0 rfl dL_law_360
                  · rw [if_neg hc6] at hf
                    by_cases hc7 : (t2 &&& 63) = 7
                    · rw [if_pos hc7] at hf
                      refine R_tswIn (tgt := 361) dL_law_32 (by rw [hc7]; decide) (by rw [hc7]; decide) (by rw [hc7]; rfl) (by decide) ?_
                      refine R_aload_n 1 dL_law_361 rfl rfl ?_
                      refine R_aload_n 0 dL_law_362 rfl rfl ?_
                      refine R_iload_n 3 dL_law_363 rfl rfl ?_
                      refine R_iconst dL_law_364 k_iconst_1 ?_
                      refine R_iadd dL_law_365 ?_
                      obtain ⟨t45, et45, hf⟩ := Option.bind_eq_some_iff.mp hf
                      refine R_iaload et45 dL_law_366 ?_
                      refine R_aload_n 0 dL_law_367 rfl rfl ?_
                      refine R_iload_n 3 dL_law_368 rfl rfl ?_
                      refine R_iconst dL_law_369 k_iconst_2 ?_
                      refine R_iadd dL_law_370 ?_
                      obtain ⟨t46, et46, hf⟩ := Option.bind_eq_some_iff.mp hf
                      refine R_iaload et46 dL_law_371 ?_
                      obtain ⟨u47, eu47, hf⟩ := Option.bind_eq_some_iff.mp hf
                      obtain ⟨q48, eq48, hf⟩ := Option.bind_eq_some_iff.mp hf
                      refine R_callV (mj := mi_X0_exchange) (ci := 0) (q := (RX0, TX0, 4)) (As := [.int t45, .int t46]) (rest := []) (T_X0_exchange eq48) eu47 rfl lV_L_44 ⟨rfl, oky_X0_exchange⟩ (by decide) (by decide) rfl C1_0 (Nat.le_of_ble_eq_true rfl) dL_law_372 ?_
                      refine R_aload_n 2 dL_law_375 rfl rfl ?_
                      refine R_aload_n 0 dL_law_376 rfl rfl ?_
                      refine R_iload_n 3 dL_law_377 rfl rfl ?_
                      refine R_iconst dL_law_378 k_iconst_1 ?_
                      refine R_iadd dL_law_379 ?_
                      obtain ⟨t49, et49, hf⟩ := Option.bind_eq_some_iff.mp hf
                      refine R_iaload et49 dL_law_380 ?_
                      refine R_aload_n 0 dL_law_381 rfl rfl ?_
                      refine R_iload_n 3 dL_law_382 rfl rfl ?_
                      refine R_iconst dL_law_383 k_iconst_2 ?_
                      refine R_iadd dL_law_384 ?_
                      obtain ⟨t50, et50, hf⟩ := Option.bind_eq_some_iff.mp hf
                      refine R_iaload et50 dL_law_385 ?_
                      obtain ⟨u51, eu51, hf⟩ := Option.bind_eq_some_iff.mp hf
                      obtain ⟨q52, eq52, hf⟩ := Option.bind_eq_some_iff.mp hf
                      refine R_callV (mj := mi_X13_exchange) (ci := 11) (q := (RX13, TX13, 24)) (As := [.int t49, .int t50]) (rest := [.int q48.1]) (T_X13_exchange eq52) eu51 rfl lV_L_47 ⟨rfl, oky_X13_exchange⟩ (by decide) (by decide) rfl (C1_i C1_0) (Nat.le_of_ble_eq_true rfl) dL_law_386 ?_
                      refine R_iceq (tgt := 1204) dL_law_389 (by decide) (fun hc => ?_) (fun hc => ?_)
                      · rw [if_pos hc] at hf
                        refine R_iinc (L' := [(3, .int (x3 + 4)), (0, va_rf x0), (1, va_rf x1), (2, va_rf x2)]) 3 dL_law_1204 rfl (k_inc_4 _) (by decide) rfl ?_
                        refine R_goto (tgt := 18) dL_law_1207 (by decide) ?_
                        refine R.sub [1, 2, 3, 0] (L' := [(0, va_rf x0), (1, va_rf x1), (2, va_rf x2), (3, .int (x3 + 4))]) rfl ?_
                        exact ih x0 x1 x2 (x3 + 4) q52.2 hf
                      · rw [if_neg hc] at hf
                        refine R_iconst dL_law_392 k_iconst_0 ?_
                        obtain rfl := Option.some.inj hf
                        exact R_iretZ0 rfl dL_law_393
                    · rw [if_neg hc7] at hf
                      by_cases hc8 : (t2 &&& 63) = 8
                      · rw [if_pos hc8] at hf
                        refine R_tswIn (tgt := 394) dL_law_32 (by rw [hc8]; decide) (by rw [hc8]; decide) (by rw [hc8]; rfl) (by decide) ?_
                        refine R_aload_n 1 dL_law_394 rfl rfl ?_
                        refine R_aload_n 0 dL_law_395 rfl rfl ?_
                        refine R_iload_n 3 dL_law_396 rfl rfl ?_
                        refine R_iconst dL_law_397 k_iconst_1 ?_
                        refine R_iadd dL_law_398 ?_
                        obtain ⟨t53, et53, hf⟩ := Option.bind_eq_some_iff.mp hf
                        refine R_iaload et53 dL_law_399 ?_
                        refine R_aload_n 0 dL_law_400 rfl rfl ?_
                        refine R_iload_n 3 dL_law_401 rfl rfl ?_
                        refine R_iconst dL_law_402 k_iconst_2 ?_
                        refine R_iadd dL_law_403 ?_
                        obtain ⟨t54, et54, hf⟩ := Option.bind_eq_some_iff.mp hf
                        refine R_iaload et54 dL_law_404 ?_
                        obtain ⟨u55, eu55, hf⟩ := Option.bind_eq_some_iff.mp hf
                        obtain ⟨q56, eq56, hf⟩ := Option.bind_eq_some_iff.mp hf
                        refine R_callV (mj := mi_X0_give) (ci := 0) (q := (RX0, TX0, 4)) (As := [.int t53, .int t54]) (rest := []) (T_X0_give eq56) eu55 rfl lV_L_48 ⟨rfl, oky_X0_give⟩ (by decide) (by decide) rfl C1_0 (Nat.le_of_ble_eq_true rfl) dL_law_405 ?_
                        refine R_aload_n 2 dL_law_408 rfl rfl ?_
                        refine R_aload_n 0 dL_law_409 rfl rfl ?_
                        refine R_iload_n 3 dL_law_410 rfl rfl ?_
                        refine R_iconst dL_law_411 k_iconst_1 ?_
                        refine R_iadd dL_law_412 ?_
                        obtain ⟨t57, et57, hf⟩ := Option.bind_eq_some_iff.mp hf
                        refine R_iaload et57 dL_law_413 ?_
                        refine R_aload_n 0 dL_law_414 rfl rfl ?_
                        refine R_iload_n 3 dL_law_415 rfl rfl ?_
                        refine R_iconst dL_law_416 k_iconst_2 ?_
                        refine R_iadd dL_law_417 ?_
                        obtain ⟨t58, et58, hf⟩ := Option.bind_eq_some_iff.mp hf
                        refine R_iaload et58 dL_law_418 ?_
                        obtain ⟨u59, eu59, hf⟩ := Option.bind_eq_some_iff.mp hf
                        obtain ⟨q60, eq60, hf⟩ := Option.bind_eq_some_iff.mp hf
                        refine R_callV (mj := mi_X13_give) (ci := 11) (q := (RX13, TX13, 24)) (As := [.int t57, .int t58]) (rest := [.int q56.1]) (T_X13_give eq60) eu59 rfl lV_L_51 ⟨rfl, oky_X13_give⟩ (by decide) (by decide) rfl (C1_i C1_0) (Nat.le_of_ble_eq_true rfl) dL_law_419 ?_
                        refine R_iceq (tgt := 1204) dL_law_422 (by decide) (fun hc => ?_) (fun hc => ?_)
                        · rw [if_pos hc] at hf
                          refine R_iinc (L' := [(3, .int (x3 + 4)), (0, va_rf x0), (1, va_rf x1), (2, va_rf x2)]) 3 dL_law_1204 rfl (k_inc_4 _) (by decide) rfl ?_
                          refine R_goto (tgt := 18) dL_law_1207 (by decide) ?_
                          refine R.sub [1, 2, 3, 0] (L' := [(0, va_rf x0), (1, va_rf x1), (2, va_rf x2), (3, .int (x3 + 4))]) rfl ?_
                          exact ih x0 x1 x2 (x3 + 4) q60.2 hf
                        · rw [if_neg hc] at hf
                          refine R_iconst dL_law_425 k_iconst_0 ?_
                          obtain rfl := Option.some.inj hf
                          exact R_iretZ0 rfl dL_law_426
                      · rw [if_neg hc8] at hf
                        by_cases hc9 : (t2 &&& 63) = 9
                        · rw [if_pos hc9] at hf
                          refine R_tswIn (tgt := 427) dL_law_32 (by rw [hc9]; decide) (by rw [hc9]; decide) (by rw [hc9]; rfl) (by decide) ?_
                          refine R_aload_n 1 dL_law_427 rfl rfl ?_
                          refine R_aload_n 0 dL_law_428 rfl rfl ?_
                          refine R_iload_n 3 dL_law_429 rfl rfl ?_
                          refine R_iconst dL_law_430 k_iconst_1 ?_
                          refine R_iadd dL_law_431 ?_
                          obtain ⟨t61, et61, hf⟩ := Option.bind_eq_some_iff.mp hf
                          refine R_iaload et61 dL_law_432 ?_
                          refine R_aload_n 0 dL_law_433 rfl rfl ?_
                          refine R_iload_n 3 dL_law_434 rfl rfl ?_
                          refine R_iconst dL_law_435 k_iconst_2 ?_
                          refine R_iadd dL_law_436 ?_
                          obtain ⟨t62, et62, hf⟩ := Option.bind_eq_some_iff.mp hf
                          refine R_iaload et62 dL_law_437 ?_
                          obtain ⟨u63, eu63, hf⟩ := Option.bind_eq_some_iff.mp hf
                          obtain ⟨q64, eq64, hf⟩ := Option.bind_eq_some_iff.mp hf
                          refine R_callV (mj := mi_X0_showSum) (ci := 0) (q := (RX0, TX0, 4)) (As := [.int t61, .int t62]) (rest := []) (T_X0_showSum eq64) eu63 rfl lV_L_52 ⟨rfl, oky_X0_showSum⟩ (by decide) (by decide) rfl C1_0 (Nat.le_of_ble_eq_true rfl) dL_law_438 ?_
                          refine R_aload_n 2 dL_law_441 rfl rfl ?_
                          refine R_aload_n 0 dL_law_442 rfl rfl ?_
                          refine R_iload_n 3 dL_law_443 rfl rfl ?_
                          refine R_iconst dL_law_444 k_iconst_1 ?_
                          refine R_iadd dL_law_445 ?_
                          obtain ⟨t65, et65, hf⟩ := Option.bind_eq_some_iff.mp hf
                          refine R_iaload et65 dL_law_446 ?_
                          refine R_aload_n 0 dL_law_447 rfl rfl ?_
                          refine R_iload_n 3 dL_law_448 rfl rfl ?_
                          refine R_iconst dL_law_449 k_iconst_2 ?_
                          refine R_iadd dL_law_450 ?_
                          obtain ⟨t66, et66, hf⟩ := Option.bind_eq_some_iff.mp hf
                          refine R_iaload et66 dL_law_451 ?_
                          obtain ⟨u67, eu67, hf⟩ := Option.bind_eq_some_iff.mp hf
                          obtain ⟨q68, eq68, hf⟩ := Option.bind_eq_some_iff.mp hf
                          refine R_callV (mj := mi_X13_showSum) (ci := 11) (q := (RX13, TX13, 24)) (As := [.int t65, .int t66]) (rest := [.int q64.1]) (T_X13_showSum eq68) eu67 rfl lV_L_55 ⟨rfl, oky_X13_showSum⟩ (by decide) (by decide) rfl (C1_i C1_0) (Nat.le_of_ble_eq_true rfl) dL_law_452 ?_
                          refine R_iceq (tgt := 1204) dL_law_455 (by decide) (fun hc => ?_) (fun hc => ?_)
                          · rw [if_pos hc] at hf
                            refine R_iinc (L' := [(3, .int (x3 + 4)), (0, va_rf x0), (1, va_rf x1), (2, va_rf x2)]) 3 dL_law_1204 rfl (k_inc_4 _) (by decide) rfl ?_
                            refine R_goto (tgt := 18) dL_law_1207 (by decide) ?_
                            refine R.sub [1, 2, 3, 0] (L' := [(0, va_rf x0), (1, va_rf x1), (2, va_rf x2), (3, .int (x3 + 4))]) rfl ?_
                            exact ih x0 x1 x2 (x3 + 4) q68.2 hf
                          · rw [if_neg hc] at hf
                            refine R_iconst dL_law_458 k_iconst_0 ?_
                            obtain rfl := Option.some.inj hf
                            exact R_iretZ0 rfl dL_law_459
                        · rw [if_neg hc9] at hf
                          by_cases hc10 : (t2 &&& 63) = 10
                          · rw [if_pos hc10] at hf
                            refine R_tswIn (tgt := 460) dL_law_32 (by rw [hc10]; decide) (by rw [hc10]; decide) (by rw [hc10]; rfl) (by decide) ?_
                            refine R_aload_n 1 dL_law_460 rfl rfl ?_
                            refine R_aload_n 0 dL_law_461 rfl rfl ?_
                            refine R_iload_n 3 dL_law_462 rfl rfl ?_
                            refine R_iconst dL_law_463 k_iconst_1 ?_
                            refine R_iadd dL_law_464 ?_
                            obtain ⟨t69, et69, hf⟩ := Option.bind_eq_some_iff.mp hf
                            refine R_iaload et69 dL_law_465 ?_
                            refine R_aload_n 0 dL_law_466 rfl rfl ?_
                            refine R_iload_n 3 dL_law_467 rfl rfl ?_
                            refine R_iconst dL_law_468 k_iconst_2 ?_
                            refine R_iadd dL_law_469 ?_
                            obtain ⟨t70, et70, hf⟩ := Option.bind_eq_some_iff.mp hf
                            refine R_iaload et70 dL_law_470 ?_
                            obtain ⟨u71, eu71, hf⟩ := Option.bind_eq_some_iff.mp hf
                            obtain ⟨q72, eq72, hf⟩ := Option.bind_eq_some_iff.mp hf
                            refine R_callV (mj := mi_X0_reduce) (ci := 0) (q := (RX0, TX0, 4)) (As := [.int t69, .int t70]) (rest := []) (T_X0_reduce eq72) eu71 rfl lV_L_56 ⟨rfl, oky_X0_reduce⟩ (by decide) (by decide) rfl C1_0 (Nat.le_of_ble_eq_true rfl) dL_law_471 ?_
                            refine R_aload_n 2 dL_law_474 rfl rfl ?_
                            refine R_aload_n 0 dL_law_475 rfl rfl ?_
                            refine R_iload_n 3 dL_law_476 rfl rfl ?_
                            refine R_iconst dL_law_477 k_iconst_1 ?_
                            refine R_iadd dL_law_478 ?_
                            obtain ⟨t73, et73, hf⟩ := Option.bind_eq_some_iff.mp hf
                            refine R_iaload et73 dL_law_479 ?_
                            refine R_aload_n 0 dL_law_480 rfl rfl ?_
                            refine R_iload_n 3 dL_law_481 rfl rfl ?_
                            refine R_iconst dL_law_482 k_iconst_2 ?_
                            refine R_iadd dL_law_483 ?_
                            obtain ⟨t74, et74, hf⟩ := Option.bind_eq_some_iff.mp hf
                            refine R_iaload et74 dL_law_484 ?_
                            obtain ⟨u75, eu75, hf⟩ := Option.bind_eq_some_iff.mp hf
                            obtain ⟨q76, eq76, hf⟩ := Option.bind_eq_some_iff.mp hf
                            refine R_callV (mj := mi_X13_reduce) (ci := 11) (q := (RX13, TX13, 24)) (As := [.int t73, .int t74]) (rest := [.int q72.1]) (T_X13_reduce eq76) eu75 rfl lV_L_59 ⟨rfl, oky_X13_reduce⟩ (by decide) (by decide) rfl (C1_i C1_0) (Nat.le_of_ble_eq_true rfl) dL_law_485 ?_
                            refine R_iceq (tgt := 1204) dL_law_488 (by decide) (fun hc => ?_) (fun hc => ?_)
                            · rw [if_pos hc] at hf
                              refine R_iinc (L' := [(3, .int (x3 + 4)), (0, va_rf x0), (1, va_rf x1), (2, va_rf x2)]) 3 dL_law_1204 rfl (k_inc_4 _) (by decide) rfl ?_
                              refine R_goto (tgt := 18) dL_law_1207 (by decide) ?_
                              refine R.sub [1, 2, 3, 0] (L' := [(0, va_rf x0), (1, va_rf x1), (2, va_rf x2), (3, .int (x3 + 4))]) rfl ?_
                              exact ih x0 x1 x2 (x3 + 4) q76.2 hf
                            · rw [if_neg hc] at hf
                              refine R_iconst dL_law_491 k_iconst_0 ?_
                              obtain rfl := Option.some.inj hf
                              exact R_iretZ0 rfl dL_law_492
                          · rw [if_neg hc10] at hf
                            by_cases hc11 : (t2 &&& 63) = 11
                            · rw [if_pos hc11] at hf
                              refine R_tswIn (tgt := 493) dL_law_32 (by rw [hc11]; decide) (by rw [hc11]; decide) (by rw [hc11]; rfl) (by decide) ?_
                              refine R_aload_n 1 dL_law_493 rfl rfl ?_
                              obtain ⟨u77, eu77, hf⟩ := Option.bind_eq_some_iff.mp hf
                              obtain ⟨q78, eq78, hf⟩ := Option.bind_eq_some_iff.mp hf
                              refine R_callV (mj := mi_X0_support) (ci := 0) (q := (RX0, TX0, 4)) (As := []) (rest := []) (T_X0_support eq78) eu77 rfl lV_L_60 ⟨rfl, oky_X0_support⟩ (by decide) (by decide) rfl C1_0 (Nat.le_of_ble_eq_true rfl) dL_law_494 ?_
                              refine R_aload_n 2 dL_law_497 rfl rfl ?_
                              obtain ⟨u79, eu79, hf⟩ := Option.bind_eq_some_iff.mp hf
                              obtain ⟨q80, eq80, hf⟩ := Option.bind_eq_some_iff.mp hf
                              refine R_callV (mj := mi_X13_support) (ci := 11) (q := (RX13, TX13, 24)) (As := []) (rest := [.int q78.1]) (T_X13_support eq80) eu79 rfl lV_L_63 ⟨rfl, oky_X13_support⟩ (by decide) (by decide) rfl (C1_i C1_0) (Nat.le_of_ble_eq_true rfl) dL_law_498 ?_
                              refine R_iceq (tgt := 1204) dL_law_501 (by decide) (fun hc => ?_) (fun hc => ?_)
                              · rw [if_pos hc] at hf
                                refine R_iinc (L' := [(3, .int (x3 + 4)), (0, va_rf x0), (1, va_rf x1), (2, va_rf x2)]) 3 dL_law_1204 rfl (k_inc_4 _) (by decide) rfl ?_
                                refine R_goto (tgt := 18) dL_law_1207 (by decide) ?_
                                refine R.sub [1, 2, 3, 0] (L' := [(0, va_rf x0), (1, va_rf x1), (2, va_rf x2), (3, .int (x3 + 4))]) rfl ?_
                                exact ih x0 x1 x2 (x3 + 4) q80.2 hf
                              · rw [if_neg hc] at hf
                                refine R_iconst dL_law_504 k_iconst_0 ?_
                                obtain rfl := Option.some.inj hf
                                exact R_iretZ0 rfl dL_law_505
                            · rw [if_neg hc11] at hf
                              by_cases hc12 : (t2 &&& 63) = 12
                              · rw [if_pos hc12] at hf
                                refine R_tswIn (tgt := 506) dL_law_32 (by rw [hc12]; decide) (by rw [hc12]; decide) (by rw [hc12]; rfl) (by decide) ?_
                                refine R_aload_n 1 dL_law_506 rfl rfl ?_
                                refine R_aload_n 0 dL_law_507 rfl rfl ?_
                                refine R_iload_n 3 dL_law_508 rfl rfl ?_
                                refine R_iconst dL_law_509 k_iconst_1 ?_
                                refine R_iadd dL_law_510 ?_
                                obtain ⟨t81, et81, hf⟩ := Option.bind_eq_some_iff.mp hf
                                refine R_iaload et81 dL_law_511 ?_
                                refine R_aload_n 0 dL_law_512 rfl rfl ?_
                                refine R_iload_n 3 dL_law_513 rfl rfl ?_
                                refine R_iconst dL_law_514 k_iconst_2 ?_
                                refine R_iadd dL_law_515 ?_
                                obtain ⟨t82, et82, hf⟩ := Option.bind_eq_some_iff.mp hf
                                refine R_iaload et82 dL_law_516 ?_
                                obtain ⟨u83, eu83, hf⟩ := Option.bind_eq_some_iff.mp hf
                                obtain ⟨q84, eq84, hf⟩ := Option.bind_eq_some_iff.mp hf
                                refine R_callV (mj := mi_X0_allow) (ci := 0) (q := (RX0, TX0, 4)) (As := [.int t81, .int t82]) (rest := []) (T_X0_allow eq84) eu83 rfl lV_L_64 ⟨rfl, oky_X0_allow⟩ (by decide) (by decide) rfl C1_0 (Nat.le_of_ble_eq_true rfl) dL_law_517 ?_
                                refine R_aload_n 2 dL_law_520 rfl rfl ?_
                                refine R_aload_n 0 dL_law_521 rfl rfl ?_
                                refine R_iload_n 3 dL_law_522 rfl rfl ?_
                                refine R_iconst dL_law_523 k_iconst_1 ?_
                                refine R_iadd dL_law_524 ?_
                                obtain ⟨t85, et85, hf⟩ := Option.bind_eq_some_iff.mp hf
                                refine R_iaload et85 dL_law_525 ?_
                                refine R_aload_n 0 dL_law_526 rfl rfl ?_
                                refine R_iload_n 3 dL_law_527 rfl rfl ?_
                                refine R_iconst dL_law_528 k_iconst_2 ?_
                                refine R_iadd dL_law_529 ?_
                                obtain ⟨t86, et86, hf⟩ := Option.bind_eq_some_iff.mp hf
                                refine R_iaload et86 dL_law_530 ?_
                                obtain ⟨u87, eu87, hf⟩ := Option.bind_eq_some_iff.mp hf
                                obtain ⟨q88, eq88, hf⟩ := Option.bind_eq_some_iff.mp hf
                                refine R_callV (mj := mi_X13_allow) (ci := 11) (q := (RX13, TX13, 24)) (As := [.int t85, .int t86]) (rest := [.int q84.1]) (T_X13_allow eq88) eu87 rfl lV_L_67 ⟨rfl, oky_X13_allow⟩ (by decide) (by decide) rfl (C1_i C1_0) (Nat.le_of_ble_eq_true rfl) dL_law_531 ?_
                                refine R_iceq (tgt := 1204) dL_law_534 (by decide) (fun hc => ?_) (fun hc => ?_)
                                · rw [if_pos hc] at hf
                                  refine R_iinc (L' := [(3, .int (x3 + 4)), (0, va_rf x0), (1, va_rf x1), (2, va_rf x2)]) 3 dL_law_1204 rfl (k_inc_4 _) (by decide) rfl ?_
                                  refine R_goto (tgt := 18) dL_law_1207 (by decide) ?_
                                  refine R.sub [1, 2, 3, 0] (L' := [(0, va_rf x0), (1, va_rf x1), (2, va_rf x2), (3, .int (x3 + 4))]) rfl ?_
                                  exact ih x0 x1 x2 (x3 + 4) q88.2 hf
                                · rw [if_neg hc] at hf
                                  refine R_iconst dL_law_537 k_iconst_0 ?_
                                  obtain rfl := Option.some.inj hf
                                  exact R_iretZ0 rfl dL_law_538
                              · rw [if_neg hc12] at hf
                                by_cases hc13 : (t2 &&& 63) = 13
                                · rw [if_pos hc13] at hf
                                  refine R_tswIn (tgt := 539) dL_law_32 (by rw [hc13]; decide) (by rw [hc13]; decide) (by rw [hc13]; rfl) (by decide) ?_
                                  refine R_aload_n 1 dL_law_539 rfl rfl ?_
                                  refine R_aload_n 0 dL_law_540 rfl rfl ?_
                                  refine R_iload_n 3 dL_law_541 rfl rfl ?_
                                  refine R_iconst dL_law_542 k_iconst_1 ?_
                                  refine R_iadd dL_law_543 ?_
                                  obtain ⟨t89, et89, hf⟩ := Option.bind_eq_some_iff.mp hf
                                  refine R_iaload et89 dL_law_544 ?_
                                  refine R_aload_n 0 dL_law_545 rfl rfl ?_
                                  refine R_iload_n 3 dL_law_546 rfl rfl ?_
                                  refine R_iconst dL_law_547 k_iconst_2 ?_
                                  refine R_iadd dL_law_548 ?_
                                  obtain ⟨t90, et90, hf⟩ := Option.bind_eq_some_iff.mp hf
                                  refine R_iaload et90 dL_law_549 ?_
                                  obtain ⟨u91, eu91, hf⟩ := Option.bind_eq_some_iff.mp hf
                                  obtain ⟨q92, eq92, hf⟩ := Option.bind_eq_some_iff.mp hf
                                  refine R_callV (mj := mi_X0_setCost) (ci := 0) (q := (RX0, TX0, 4)) (As := [.int t89, .int t90]) (rest := []) (T_X0_setCost eq92) eu91 rfl lV_L_68 ⟨rfl, oky_X0_setCost⟩ (by decide) (by decide) rfl C1_0 (Nat.le_of_ble_eq_true rfl) dL_law_550 ?_
                                  refine R_aload_n 2 dL_law_553 rfl rfl ?_
                                  refine R_aload_n 0 dL_law_554 rfl rfl ?_
                                  refine R_iload_n 3 dL_law_555 rfl rfl ?_
                                  refine R_iconst dL_law_556 k_iconst_1 ?_
                                  refine R_iadd dL_law_557 ?_
                                  obtain ⟨t93, et93, hf⟩ := Option.bind_eq_some_iff.mp hf
                                  refine R_iaload et93 dL_law_558 ?_
                                  refine R_aload_n 0 dL_law_559 rfl rfl ?_
                                  refine R_iload_n 3 dL_law_560 rfl rfl ?_
                                  refine R_iconst dL_law_561 k_iconst_2 ?_
                                  refine R_iadd dL_law_562 ?_
                                  obtain ⟨t94, et94, hf⟩ := Option.bind_eq_some_iff.mp hf
                                  refine R_iaload et94 dL_law_563 ?_
                                  obtain ⟨u95, eu95, hf⟩ := Option.bind_eq_some_iff.mp hf
                                  obtain ⟨q96, eq96, hf⟩ := Option.bind_eq_some_iff.mp hf
                                  refine R_callV (mj := mi_X13_setCost) (ci := 11) (q := (RX13, TX13, 24)) (As := [.int t93, .int t94]) (rest := [.int q92.1]) (T_X13_setCost eq96) eu95 rfl lV_L_71 ⟨rfl, oky_X13_setCost⟩ (by decide) (by decide) rfl (C1_i C1_0) (Nat.le_of_ble_eq_true rfl) dL_law_564 ?_
                                  refine R_iceq (tgt := 1204) dL_law_567 (by decide) (fun hc => ?_) (fun hc => ?_)
                                  · rw [if_pos hc] at hf
                                    refine R_iinc (L' := [(3, .int (x3 + 4)), (0, va_rf x0), (1, va_rf x1), (2, va_rf x2)]) 3 dL_law_1204 rfl (k_inc_4 _) (by decide) rfl ?_
                                    refine R_goto (tgt := 18) dL_law_1207 (by decide) ?_
                                    refine R.sub [1, 2, 3, 0] (L' := [(0, va_rf x0), (1, va_rf x1), (2, va_rf x2), (3, .int (x3 + 4))]) rfl ?_
                                    exact ih x0 x1 x2 (x3 + 4) q96.2 hf
                                  · rw [if_neg hc] at hf
                                    refine R_iconst dL_law_570 k_iconst_0 ?_
                                    obtain rfl := Option.some.inj hf
                                    exact R_iretZ0 rfl dL_law_571
                                · rw [if_neg hc13] at hf
                                  by_cases hc14 : (t2 &&& 63) = 14
                                  · rw [if_pos hc14] at hf
                                    refine R_tswIn (tgt := 572) dL_law_32 (by rw [hc14]; decide) (by rw [hc14]; decide) (by rw [hc14]; rfl) (by decide) ?_
                                    refine R_aload_n 1 dL_law_572 rfl rfl ?_
                                    refine R_aload_n 0 dL_law_573 rfl rfl ?_
                                    refine R_iload_n 3 dL_law_574 rfl rfl ?_
                                    refine R_iconst dL_law_575 k_iconst_1 ?_
                                    refine R_iadd dL_law_576 ?_
                                    obtain ⟨t97, et97, hf⟩ := Option.bind_eq_some_iff.mp hf
                                    refine R_iaload et97 dL_law_577 ?_
                                    refine R_aload_n 0 dL_law_578 rfl rfl ?_
                                    refine R_iload_n 3 dL_law_579 rfl rfl ?_
                                    refine R_iconst dL_law_580 k_iconst_2 ?_
                                    refine R_iadd dL_law_581 ?_
                                    obtain ⟨t98, et98, hf⟩ := Option.bind_eq_some_iff.mp hf
                                    refine R_iaload et98 dL_law_582 ?_
                                    obtain ⟨u99, eu99, hf⟩ := Option.bind_eq_some_iff.mp hf
                                    obtain ⟨q100, eq100, hf⟩ := Option.bind_eq_some_iff.mp hf
                                    refine R_callV (mj := mi_X0_strike) (ci := 0) (q := (RX0, TX0, 4)) (As := [.int t97, .int t98]) (rest := []) (T_X0_strike eq100) eu99 rfl lV_L_72 ⟨rfl, oky_X0_strike⟩ (by decide) (by decide) rfl C1_0 (Nat.le_of_ble_eq_true rfl) dL_law_583 ?_
                                    refine R_aload_n 2 dL_law_586 rfl rfl ?_
                                    refine R_aload_n 0 dL_law_587 rfl rfl ?_
                                    refine R_iload_n 3 dL_law_588 rfl rfl ?_
                                    refine R_iconst dL_law_589 k_iconst_1 ?_
                                    refine R_iadd dL_law_590 ?_
                                    obtain ⟨t101, et101, hf⟩ := Option.bind_eq_some_iff.mp hf
                                    refine R_iaload et101 dL_law_591 ?_
                                    refine R_aload_n 0 dL_law_592 rfl rfl ?_
                                    refine R_iload_n 3 dL_law_593 rfl rfl ?_
                                    refine R_iconst dL_law_594 k_iconst_2 ?_
                                    refine R_iadd dL_law_595 ?_
                                    obtain ⟨t102, et102, hf⟩ := Option.bind_eq_some_iff.mp hf
                                    refine R_iaload et102 dL_law_596 ?_
                                    obtain ⟨u103, eu103, hf⟩ := Option.bind_eq_some_iff.mp hf
                                    obtain ⟨q104, eq104, hf⟩ := Option.bind_eq_some_iff.mp hf
                                    refine R_callV (mj := mi_X13_strike) (ci := 11) (q := (RX13, TX13, 24)) (As := [.int t101, .int t102]) (rest := [.int q100.1]) (T_X13_strike eq104) eu103 rfl lV_L_75 ⟨rfl, oky_X13_strike⟩ (by decide) (by decide) rfl (C1_i C1_0) (Nat.le_of_ble_eq_true rfl) dL_law_597 ?_
                                    refine R_iceq (tgt := 1204) dL_law_600 (by decide) (fun hc => ?_) (fun hc => ?_)
                                    · rw [if_pos hc] at hf
                                      refine R_iinc (L' := [(3, .int (x3 + 4)), (0, va_rf x0), (1, va_rf x1), (2, va_rf x2)]) 3 dL_law_1204 rfl (k_inc_4 _) (by decide) rfl ?_
                                      refine R_goto (tgt := 18) dL_law_1207 (by decide) ?_
                                      refine R.sub [1, 2, 3, 0] (L' := [(0, va_rf x0), (1, va_rf x1), (2, va_rf x2), (3, .int (x3 + 4))]) rfl ?_
                                      exact ih x0 x1 x2 (x3 + 4) q104.2 hf
                                    · rw [if_neg hc] at hf
                                      refine R_iconst dL_law_603 k_iconst_0 ?_
                                      obtain rfl := Option.some.inj hf
                                      exact R_iretZ0 rfl dL_law_604
                                  · rw [if_neg hc14] at hf
                                    by_cases hc15 : (t2 &&& 63) = 15
                                    · rw [if_pos hc15] at hf
                                      refine R_tswIn (tgt := 605) dL_law_32 (by rw [hc15]; decide) (by rw [hc15]; decide) (by rw [hc15]; rfl) (by decide) ?_
                                      refine R_aload_n 1 dL_law_605 rfl rfl ?_
                                      refine R_aload_n 0 dL_law_606 rfl rfl ?_
                                      refine R_iload_n 3 dL_law_607 rfl rfl ?_
                                      refine R_iconst dL_law_608 k_iconst_1 ?_
                                      refine R_iadd dL_law_609 ?_
                                      obtain ⟨t105, et105, hf⟩ := Option.bind_eq_some_iff.mp hf
                                      refine R_iaload et105 dL_law_610 ?_
                                      obtain ⟨u106, eu106, hf⟩ := Option.bind_eq_some_iff.mp hf
                                      obtain ⟨q107, eq107, hf⟩ := Option.bind_eq_some_iff.mp hf
                                      refine R_callV (mj := mi_X0_advance) (ci := 0) (q := (RX0, TX0, 4)) (As := [.int t105]) (rest := []) (T_X0_advance eq107) eu106 rfl lV_L_76 ⟨rfl, oky_X0_advance⟩ (by decide) (by decide) rfl C1_0 (Nat.le_of_ble_eq_true rfl) dL_law_611 ?_
                                      refine R_aload_n 2 dL_law_614 rfl rfl ?_
                                      refine R_aload_n 0 dL_law_615 rfl rfl ?_
                                      refine R_iload_n 3 dL_law_616 rfl rfl ?_
                                      refine R_iconst dL_law_617 k_iconst_1 ?_
                                      refine R_iadd dL_law_618 ?_
                                      obtain ⟨t108, et108, hf⟩ := Option.bind_eq_some_iff.mp hf
                                      refine R_iaload et108 dL_law_619 ?_
                                      obtain ⟨u109, eu109, hf⟩ := Option.bind_eq_some_iff.mp hf
                                      obtain ⟨q110, eq110, hf⟩ := Option.bind_eq_some_iff.mp hf
                                      refine R_callV (mj := mi_X13_advance) (ci := 11) (q := (RX13, TX13, 24)) (As := [.int t108]) (rest := [.int q107.1]) (T_X13_advance eq110) eu109 rfl lV_L_79 ⟨rfl, oky_X13_advance⟩ (by decide) (by decide) rfl (C1_i C1_0) (Nat.le_of_ble_eq_true rfl) dL_law_620 ?_
                                      refine R_iceq (tgt := 1204) dL_law_623 (by decide) (fun hc => ?_) (fun hc => ?_)
                                      · rw [if_pos hc] at hf
                                        refine R_iinc (L' := [(3, .int (x3 + 4)), (0, va_rf x0), (1, va_rf x1), (2, va_rf x2)]) 3 dL_law_1204 rfl (k_inc_4 _) (by decide) rfl ?_
                                        refine R_goto (tgt := 18) dL_law_1207 (by decide) ?_
                                        refine R.sub [1, 2, 3, 0] (L' := [(0, va_rf x0), (1, va_rf x1), (2, va_rf x2), (3, .int (x3 + 4))]) rfl ?_
                                        exact ih x0 x1 x2 (x3 + 4) q110.2 hf
                                      · rw [if_neg hc] at hf
                                        refine R_iconst dL_law_626 k_iconst_0 ?_
                                        obtain rfl := Option.some.inj hf
                                        exact R_iretZ0 rfl dL_law_627
                                    · rw [if_neg hc15] at hf
                                      by_cases hc16 : (t2 &&& 63) = 16
                                      · rw [if_pos hc16] at hf
                                        refine R_tswIn (tgt := 628) dL_law_32 (by rw [hc16]; decide) (by rw [hc16]; decide) (by rw [hc16]; rfl) (by decide) ?_
                                        refine R_aload_n 1 dL_law_628 rfl rfl ?_
                                        obtain ⟨u111, eu111, hf⟩ := Option.bind_eq_some_iff.mp hf
                                        obtain ⟨q112, eq112, hf⟩ := Option.bind_eq_some_iff.mp hf
                                        refine R_callV (mj := mi_X0_restart) (ci := 0) (q := (RX0, TX0, 4)) (As := []) (rest := []) (T_X0_restart eq112) eu111 rfl lV_L_80 ⟨rfl, oky_X0_restart⟩ (by decide) (by decide) rfl C1_0 (Nat.le_of_ble_eq_true rfl) dL_law_629 ?_
                                        refine R_aload_n 2 dL_law_632 rfl rfl ?_
                                        obtain ⟨u113, eu113, hf⟩ := Option.bind_eq_some_iff.mp hf
                                        obtain ⟨q114, eq114, hf⟩ := Option.bind_eq_some_iff.mp hf
                                        refine R_callV (mj := mi_X13_restart) (ci := 11) (q := (RX13, TX13, 24)) (As := []) (rest := [.int q112.1]) (T_X13_restart eq114) eu113 rfl lV_L_83 ⟨rfl, oky_X13_restart⟩ (by decide) (by decide) rfl (C1_i C1_0) (Nat.le_of_ble_eq_true rfl) dL_law_633 ?_
                                        refine R_iceq (tgt := 1204) dL_law_636 (by decide) (fun hc => ?_) (fun hc => ?_)
                                        · rw [if_pos hc] at hf
                                          refine R_iinc (L' := [(3, .int (x3 + 4)), (0, va_rf x0), (1, va_rf x1), (2, va_rf x2)]) 3 dL_law_1204 rfl (k_inc_4 _) (by decide) rfl ?_
                                          refine R_goto (tgt := 18) dL_law_1207 (by decide) ?_
                                          refine R.sub [1, 2, 3, 0] (L' := [(0, va_rf x0), (1, va_rf x1), (2, va_rf x2), (3, .int (x3 + 4))]) rfl ?_
                                          exact ih x0 x1 x2 (x3 + 4) q114.2 hf
                                        · rw [if_neg hc] at hf
                                          refine R_iconst dL_law_639 k_iconst_0 ?_
                                          obtain rfl := Option.some.inj hf
                                          exact R_iretZ0 rfl dL_law_640
                                      · rw [if_neg hc16] at hf
                                        by_cases hc17 : (t2 &&& 63) = 17
                                        · rw [if_pos hc17] at hf
                                          refine R_tswIn (tgt := 641) dL_law_32 (by rw [hc17]; decide) (by rw [hc17]; decide) (by rw [hc17]; rfl) (by decide) ?_
                                          refine R_aload_n 1 dL_law_641 rfl rfl ?_
                                          refine R_aload_n 0 dL_law_642 rfl rfl ?_
                                          refine R_iload_n 3 dL_law_643 rfl rfl ?_
                                          refine R_iconst dL_law_644 k_iconst_1 ?_
                                          refine R_iadd dL_law_645 ?_
                                          obtain ⟨t115, et115, hf⟩ := Option.bind_eq_some_iff.mp hf
                                          refine R_iaload et115 dL_law_646 ?_
                                          obtain ⟨u116, eu116, hf⟩ := Option.bind_eq_some_iff.mp hf
                                          obtain ⟨q117, eq117, hf⟩ := Option.bind_eq_some_iff.mp hf
                                          refine R_callV (mj := mi_X0_take) (ci := 0) (q := (RX0, TX0, 4)) (As := [.int t115]) (rest := []) (T_X0_take eq117) eu116 rfl lV_L_84 ⟨rfl, oky_X0_take⟩ (by decide) (by decide) rfl C1_0 (Nat.le_of_ble_eq_true rfl) dL_law_647 ?_
                                          refine R_aload_n 2 dL_law_650 rfl rfl ?_
                                          refine R_aload_n 0 dL_law_651 rfl rfl ?_
                                          refine R_iload_n 3 dL_law_652 rfl rfl ?_
                                          refine R_iconst dL_law_653 k_iconst_1 ?_
                                          refine R_iadd dL_law_654 ?_
                                          obtain ⟨t118, et118, hf⟩ := Option.bind_eq_some_iff.mp hf
                                          refine R_iaload et118 dL_law_655 ?_
                                          obtain ⟨u119, eu119, hf⟩ := Option.bind_eq_some_iff.mp hf
                                          obtain ⟨q120, eq120, hf⟩ := Option.bind_eq_some_iff.mp hf
                                          refine R_callV (mj := mi_X13_take) (ci := 11) (q := (RX13, TX13, 24)) (As := [.int t118]) (rest := [.int q117.1]) (T_X13_take eq120) eu119 rfl lV_L_87 ⟨rfl, oky_X13_take⟩ (by decide) (by decide) rfl (C1_i C1_0) (Nat.le_of_ble_eq_true rfl) dL_law_656 ?_
                                          refine R_iceq (tgt := 1204) dL_law_659 (by decide) (fun hc => ?_) (fun hc => ?_)
                                          · rw [if_pos hc] at hf
                                            refine R_iinc (L' := [(3, .int (x3 + 4)), (0, va_rf x0), (1, va_rf x1), (2, va_rf x2)]) 3 dL_law_1204 rfl (k_inc_4 _) (by decide) rfl ?_
                                            refine R_goto (tgt := 18) dL_law_1207 (by decide) ?_
                                            refine R.sub [1, 2, 3, 0] (L' := [(0, va_rf x0), (1, va_rf x1), (2, va_rf x2), (3, .int (x3 + 4))]) rfl ?_
                                            exact ih x0 x1 x2 (x3 + 4) q120.2 hf
                                          · rw [if_neg hc] at hf
                                            refine R_iconst dL_law_662 k_iconst_0 ?_
                                            obtain rfl := Option.some.inj hf
                                            exact R_iretZ0 rfl dL_law_663
                                        · rw [if_neg hc17] at hf
                                          by_cases hc18 : (t2 &&& 63) = 18
                                          · rw [if_pos hc18] at hf
                                            refine R_tswIn (tgt := 664) dL_law_32 (by rw [hc18]; decide) (by rw [hc18]; decide) (by rw [hc18]; rfl) (by decide) ?_
                                            refine R_aload_n 1 dL_law_664 rfl rfl ?_
                                            refine R_aload_n 0 dL_law_665 rfl rfl ?_
                                            refine R_iload_n 3 dL_law_666 rfl rfl ?_
                                            refine R_iconst dL_law_667 k_iconst_1 ?_
                                            refine R_iadd dL_law_668 ?_
                                            obtain ⟨t121, et121, hf⟩ := Option.bind_eq_some_iff.mp hf
                                            refine R_iaload et121 dL_law_669 ?_
                                            obtain ⟨u122, eu122, hf⟩ := Option.bind_eq_some_iff.mp hf
                                            obtain ⟨q123, eq123, hf⟩ := Option.bind_eq_some_iff.mp hf
                                            refine R_callV (mj := mi_X0_restore) (ci := 0) (q := (RX0, TX0, 4)) (As := [.int t121]) (rest := []) (T_X0_restore eq123) eu122 rfl lV_L_88 ⟨rfl, oky_X0_restore⟩ (by decide) (by decide) rfl C1_0 (Nat.le_of_ble_eq_true rfl) dL_law_670 ?_
                                            refine R_aload_n 2 dL_law_673 rfl rfl ?_
                                            refine R_aload_n 0 dL_law_674 rfl rfl ?_
                                            refine R_iload_n 3 dL_law_675 rfl rfl ?_
                                            refine R_iconst dL_law_676 k_iconst_1 ?_
                                            refine R_iadd dL_law_677 ?_
                                            obtain ⟨t124, et124, hf⟩ := Option.bind_eq_some_iff.mp hf
                                            refine R_iaload et124 dL_law_678 ?_
                                            obtain ⟨u125, eu125, hf⟩ := Option.bind_eq_some_iff.mp hf
                                            obtain ⟨q126, eq126, hf⟩ := Option.bind_eq_some_iff.mp hf
                                            refine R_callV (mj := mi_X13_restore) (ci := 11) (q := (RX13, TX13, 24)) (As := [.int t124]) (rest := [.int q123.1]) (T_X13_restore eq126) eu125 rfl lV_L_91 ⟨rfl, oky_X13_restore⟩ (by decide) (by decide) rfl (C1_i C1_0) (Nat.le_of_ble_eq_true rfl) dL_law_679 ?_
                                            refine R_iceq (tgt := 1204) dL_law_682 (by decide) (fun hc => ?_) (fun hc => ?_)
                                            · rw [if_pos hc] at hf
                                              refine R_iinc (L' := [(3, .int (x3 + 4)), (0, va_rf x0), (1, va_rf x1), (2, va_rf x2)]) 3 dL_law_1204 rfl (k_inc_4 _) (by decide) rfl ?_
                                              refine R_goto (tgt := 18) dL_law_1207 (by decide) ?_
                                              refine R.sub [1, 2, 3, 0] (L' := [(0, va_rf x0), (1, va_rf x1), (2, va_rf x2), (3, .int (x3 + 4))]) rfl ?_
                                              exact ih x0 x1 x2 (x3 + 4) q126.2 hf
                                            · rw [if_neg hc] at hf
                                              refine R_iconst dL_law_685 k_iconst_0 ?_
                                              obtain rfl := Option.some.inj hf
                                              exact R_iretZ0 rfl dL_law_686
                                          · rw [if_neg hc18] at hf
                                            by_cases hc19 : (t2 &&& 63) = 19
                                            · rw [if_pos hc19] at hf
                                              refine R_tswIn (tgt := 687) dL_law_32 (by rw [hc19]; decide) (by rw [hc19]; decide) (by rw [hc19]; rfl) (by decide) ?_
                                              refine R_aload_n 1 dL_law_687 rfl rfl ?_
                                              obtain ⟨u127, eu127, hf⟩ := Option.bind_eq_some_iff.mp hf
                                              obtain ⟨q128, eq128, hf⟩ := Option.bind_eq_some_iff.mp hf
                                              refine R_callV (mj := mi_X0_undo) (ci := 0) (q := (RX0, TX0, 4)) (As := []) (rest := []) (T_X0_undo eq128) eu127 rfl lV_L_92 ⟨rfl, oky_X0_undo⟩ (by decide) (by decide) rfl C1_0 (Nat.le_of_ble_eq_true rfl) dL_law_688 ?_
                                              refine R_aload_n 2 dL_law_691 rfl rfl ?_
                                              obtain ⟨u129, eu129, hf⟩ := Option.bind_eq_some_iff.mp hf
                                              obtain ⟨q130, eq130, hf⟩ := Option.bind_eq_some_iff.mp hf
                                              refine R_callV (mj := mi_X13_undo) (ci := 11) (q := (RX13, TX13, 24)) (As := []) (rest := [.int q128.1]) (T_X13_undo eq130) eu129 rfl lV_L_95 ⟨rfl, oky_X13_undo⟩ (by decide) (by decide) rfl (C1_i C1_0) (Nat.le_of_ble_eq_true rfl) dL_law_692 ?_
                                              refine R_iceq (tgt := 1204) dL_law_695 (by decide) (fun hc => ?_) (fun hc => ?_)
                                              · rw [if_pos hc] at hf
                                                refine R_iinc (L' := [(3, .int (x3 + 4)), (0, va_rf x0), (1, va_rf x1), (2, va_rf x2)]) 3 dL_law_1204 rfl (k_inc_4 _) (by decide) rfl ?_
                                                refine R_goto (tgt := 18) dL_law_1207 (by decide) ?_
                                                refine R.sub [1, 2, 3, 0] (L' := [(0, va_rf x0), (1, va_rf x1), (2, va_rf x2), (3, .int (x3 + 4))]) rfl ?_
                                                exact ih x0 x1 x2 (x3 + 4) q130.2 hf
                                              · rw [if_neg hc] at hf
                                                refine R_iconst dL_law_698 k_iconst_0 ?_
                                                obtain rfl := Option.some.inj hf
                                                exact R_iretZ0 rfl dL_law_699
                                            · rw [if_neg hc19] at hf
                                              by_cases hc20 : (t2 &&& 63) = 20
                                              · rw [if_pos hc20] at hf
                                                refine R_tswIn (tgt := 700) dL_law_32 (by rw [hc20]; decide) (by rw [hc20]; decide) (by rw [hc20]; rfl) (by decide) ?_
                                                refine R_aload_n 1 dL_law_700 rfl rfl ?_
                                                refine R_aload_n 0 dL_law_701 rfl rfl ?_
                                                refine R_iload_n 3 dL_law_702 rfl rfl ?_
                                                refine R_iconst dL_law_703 k_iconst_1 ?_
                                                refine R_iadd dL_law_704 ?_
                                                obtain ⟨t131, et131, hf⟩ := Option.bind_eq_some_iff.mp hf
                                                refine R_iaload et131 dL_law_705 ?_
                                                obtain ⟨u132, eu132, hf⟩ := Option.bind_eq_some_iff.mp hf
                                                obtain ⟨q133, eq133, hf⟩ := Option.bind_eq_some_iff.mp hf
                                                refine R_callV (mj := mi_X0_append) (ci := 0) (q := (RX0, TX0, 4)) (As := [.int t131]) (rest := []) (T_X0_append eq133) eu132 rfl lV_L_96 ⟨rfl, oky_X0_append⟩ (by decide) (by decide) rfl C1_0 (Nat.le_of_ble_eq_true rfl) dL_law_706 ?_
                                                refine R_aload_n 2 dL_law_709 rfl rfl ?_
                                                refine R_aload_n 0 dL_law_710 rfl rfl ?_
                                                refine R_iload_n 3 dL_law_711 rfl rfl ?_
                                                refine R_iconst dL_law_712 k_iconst_1 ?_
                                                refine R_iadd dL_law_713 ?_
                                                obtain ⟨t134, et134, hf⟩ := Option.bind_eq_some_iff.mp hf
                                                refine R_iaload et134 dL_law_714 ?_
                                                obtain ⟨u135, eu135, hf⟩ := Option.bind_eq_some_iff.mp hf
                                                obtain ⟨q136, eq136, hf⟩ := Option.bind_eq_some_iff.mp hf
                                                refine R_callV (mj := mi_X13_append) (ci := 11) (q := (RX13, TX13, 24)) (As := [.int t134]) (rest := [.int q133.1]) (T_X13_append eq136) eu135 rfl lV_L_99 ⟨rfl, oky_X13_append⟩ (by decide) (by decide) rfl (C1_i C1_0) (Nat.le_of_ble_eq_true rfl) dL_law_715 ?_
                                                refine R_iceq (tgt := 1204) dL_law_718 (by decide) (fun hc => ?_) (fun hc => ?_)
                                                · rw [if_pos hc] at hf
                                                  refine R_iinc (L' := [(3, .int (x3 + 4)), (0, va_rf x0), (1, va_rf x1), (2, va_rf x2)]) 3 dL_law_1204 rfl (k_inc_4 _) (by decide) rfl ?_
                                                  refine R_goto (tgt := 18) dL_law_1207 (by decide) ?_
                                                  refine R.sub [1, 2, 3, 0] (L' := [(0, va_rf x0), (1, va_rf x1), (2, va_rf x2), (3, .int (x3 + 4))]) rfl ?_
                                                  exact ih x0 x1 x2 (x3 + 4) q136.2 hf
                                                · rw [if_neg hc] at hf
                                                  refine R_iconst dL_law_721 k_iconst_0 ?_
                                                  obtain rfl := Option.some.inj hf
                                                  exact R_iretZ0 rfl dL_law_722
                                              · rw [if_neg hc20] at hf
                                                by_cases hc21 : (t2 &&& 63) = 21
                                                · rw [if_pos hc21] at hf
                                                  refine R_tswIn (tgt := 723) dL_law_32 (by rw [hc21]; decide) (by rw [hc21]; decide) (by rw [hc21]; rfl) (by decide) ?_
                                                  refine R_aload_n 1 dL_law_723 rfl rfl ?_
                                                  obtain ⟨u137, eu137, hf⟩ := Option.bind_eq_some_iff.mp hf
                                                  obtain ⟨q138, eq138, hf⟩ := Option.bind_eq_some_iff.mp hf
                                                  refine R_callV (mj := mi_X0_clearText) (ci := 0) (q := (RX0, TX0, 4)) (As := []) (rest := []) (T_X0_clearText eq138) eu137 rfl lV_L_100 ⟨rfl, oky_X0_clearText⟩ (by decide) (by decide) rfl C1_0 (Nat.le_of_ble_eq_true rfl) dL_law_724 ?_
                                                  refine R_aload_n 2 dL_law_727 rfl rfl ?_
                                                  obtain ⟨u139, eu139, hf⟩ := Option.bind_eq_some_iff.mp hf
                                                  obtain ⟨q140, eq140, hf⟩ := Option.bind_eq_some_iff.mp hf
                                                  refine R_callV (mj := mi_X13_clearText) (ci := 11) (q := (RX13, TX13, 24)) (As := []) (rest := [.int q138.1]) (T_X13_clearText eq140) eu139 rfl lV_L_103 ⟨rfl, oky_X13_clearText⟩ (by decide) (by decide) rfl (C1_i C1_0) (Nat.le_of_ble_eq_true rfl) dL_law_728 ?_
                                                  refine R_iceq (tgt := 1204) dL_law_731 (by decide) (fun hc => ?_) (fun hc => ?_)
                                                  · rw [if_pos hc] at hf
                                                    refine R_iinc (L' := [(3, .int (x3 + 4)), (0, va_rf x0), (1, va_rf x1), (2, va_rf x2)]) 3 dL_law_1204 rfl (k_inc_4 _) (by decide) rfl ?_
                                                    refine R_goto (tgt := 18) dL_law_1207 (by decide) ?_
                                                    refine R.sub [1, 2, 3, 0] (L' := [(0, va_rf x0), (1, va_rf x1), (2, va_rf x2), (3, .int (x3 + 4))]) rfl ?_
                                                    exact ih x0 x1 x2 (x3 + 4) q140.2 hf
                                                  · rw [if_neg hc] at hf
                                                    refine R_iconst dL_law_734 k_iconst_0 ?_
                                                    obtain rfl := Option.some.inj hf
                                                    exact R_iretZ0 rfl dL_law_735
                                                · rw [if_neg hc21] at hf
                                                  by_cases hc22 : (t2 &&& 63) = 22
                                                  · rw [if_pos hc22] at hf
                                                    refine R_tswIn (tgt := 736) dL_law_32 (by rw [hc22]; decide) (by rw [hc22]; decide) (by rw [hc22]; rfl) (by decide) ?_
                                                    refine R_aload_n 1 dL_law_736 rfl rfl ?_
                                                    obtain ⟨u141, eu141, hf⟩ := Option.bind_eq_some_iff.mp hf
                                                    obtain ⟨q142, eq142, hf⟩ := Option.bind_eq_some_iff.mp hf
                                                    refine R_callL (mj := mi_X0_load) (ci := 0) (q := (RX0, TX0, 4)) (As := []) (rest := []) (T_X0_load eq142) eu141 rfl (lw_Lx q1761 q1762 q1763 q125 q1764) ⟨rfl, oky_X0_load⟩ (by decide) (by decide) rfl C1_0 (Nat.le_of_ble_eq_true rfl) dL_law_737 ?_
                                                    refine R_aload_n 2 dL_law_740 rfl rfl ?_
                                                    obtain ⟨u143, eu143, hf⟩ := Option.bind_eq_some_iff.mp hf
                                                    obtain ⟨q144, eq144, hf⟩ := Option.bind_eq_some_iff.mp hf
                                                    refine R_callV (mj := mi_X13_load) (ci := 11) (q := (RX13, TX13, 24)) (As := []) (rest := [.int q142.1]) (T_X13_load eq144) eu143 rfl lV_L_107 ⟨rfl, oky_X13_load⟩ (by decide) (by decide) rfl (C1_i C1_0) (Nat.le_of_ble_eq_true rfl) dL_law_741 ?_
                                                    refine R_iceq (tgt := 1204) dL_law_744 (by decide) (fun hc => ?_) (fun hc => ?_)
                                                    · rw [if_pos hc] at hf
                                                      refine R_iinc (L' := [(3, .int (x3 + 4)), (0, va_rf x0), (1, va_rf x1), (2, va_rf x2)]) 3 dL_law_1204 rfl (k_inc_4 _) (by decide) rfl ?_
                                                      refine R_goto (tgt := 18) dL_law_1207 (by decide) ?_
                                                      refine R.sub [1, 2, 3, 0] (L' := [(0, va_rf x0), (1, va_rf x1), (2, va_rf x2), (3, .int (x3 + 4))]) rfl ?_
                                                      exact ih x0 x1 x2 (x3 + 4) q144.2 hf
                                                    · rw [if_neg hc] at hf
                                                      refine R_iconst dL_law_747 k_iconst_0 ?_
                                                      obtain rfl := Option.some.inj hf
                                                      exact R_iretZ0 rfl dL_law_748
                                                  · rw [if_neg hc22] at hf
                                                    by_cases hc23 : (t2 &&& 63) = 23
                                                    · rw [if_pos hc23] at hf
                                                      refine R_tswIn (tgt := 749) dL_law_32 (by rw [hc23]; decide) (by rw [hc23]; decide) (by rw [hc23]; rfl) (by decide) ?_
                                                      refine R_aload_n 1 dL_law_749 rfl rfl ?_
                                                      refine R_aload_n 0 dL_law_750 rfl rfl ?_
                                                      refine R_iload_n 3 dL_law_751 rfl rfl ?_
                                                      refine R_iconst dL_law_752 k_iconst_1 ?_
                                                      refine R_iadd dL_law_753 ?_
                                                      obtain ⟨t145, et145, hf⟩ := Option.bind_eq_some_iff.mp hf
                                                      refine R_iaload et145 dL_law_754 ?_
                                                      obtain ⟨u146, eu146, hf⟩ := Option.bind_eq_some_iff.mp hf
                                                      obtain ⟨q147, eq147, hf⟩ := Option.bind_eq_some_iff.mp hf
                                                      refine R_callV (mj := mi_X0_count) (ci := 0) (q := (RX0, TX0, 4)) (As := [.int t145]) (rest := []) (T_X0_count eq147) eu146 rfl lV_L_108 ⟨rfl, oky_X0_count⟩ (by decide) (by decide) rfl C1_0 (Nat.le_of_ble_eq_true rfl) dL_law_755 ?_
                                                      refine R_aload_n 2 dL_law_758 rfl rfl ?_
                                                      refine R_aload_n 0 dL_law_759 rfl rfl ?_
                                                      refine R_iload_n 3 dL_law_760 rfl rfl ?_
                                                      refine R_iconst dL_law_761 k_iconst_1 ?_
                                                      refine R_iadd dL_law_762 ?_
                                                      obtain ⟨t148, et148, hf⟩ := Option.bind_eq_some_iff.mp hf
                                                      refine R_iaload et148 dL_law_763 ?_
                                                      obtain ⟨u149, eu149, hf⟩ := Option.bind_eq_some_iff.mp hf
                                                      obtain ⟨q150, eq150, hf⟩ := Option.bind_eq_some_iff.mp hf
                                                      refine R_callV (mj := mi_X13_count) (ci := 11) (q := (RX13, TX13, 24)) (As := [.int t148]) (rest := [.int q147.1]) (T_X13_count eq150) eu149 rfl lV_L_111 ⟨rfl, oky_X13_count⟩ (by decide) (by decide) rfl (C1_i C1_0) (Nat.le_of_ble_eq_true rfl) dL_law_764 ?_
                                                      refine R_iceq (tgt := 1204) dL_law_767 (by decide) (fun hc => ?_) (fun hc => ?_)
                                                      · rw [if_pos hc] at hf
                                                        refine R_iinc (L' := [(3, .int (x3 + 4)), (0, va_rf x0), (1, va_rf x1), (2, va_rf x2)]) 3 dL_law_1204 rfl (k_inc_4 _) (by decide) rfl ?_
                                                        refine R_goto (tgt := 18) dL_law_1207 (by decide) ?_
                                                        refine R.sub [1, 2, 3, 0] (L' := [(0, va_rf x0), (1, va_rf x1), (2, va_rf x2), (3, .int (x3 + 4))]) rfl ?_
                                                        exact ih x0 x1 x2 (x3 + 4) q150.2 hf
                                                      · rw [if_neg hc] at hf
                                                        refine R_iconst dL_law_770 k_iconst_0 ?_
                                                        obtain rfl := Option.some.inj hf
                                                        exact R_iretZ0 rfl dL_law_771
                                                    · rw [if_neg hc23] at hf
                                                      by_cases hc24 : (t2 &&& 63) = 24
                                                      · rw [if_pos hc24] at hf
                                                        refine R_tswIn (tgt := 772) dL_law_32 (by rw [hc24]; decide) (by rw [hc24]; decide) (by rw [hc24]; rfl) (by decide) ?_
                                                        refine R_aload_n 1 dL_law_772 rfl rfl ?_
                                                        refine R_aload_n 0 dL_law_773 rfl rfl ?_
                                                        refine R_iload_n 3 dL_law_774 rfl rfl ?_
                                                        refine R_iconst dL_law_775 k_iconst_1 ?_
                                                        refine R_iadd dL_law_776 ?_
                                                        obtain ⟨t151, et151, hf⟩ := Option.bind_eq_some_iff.mp hf
                                                        refine R_iaload et151 dL_law_777 ?_
                                                        refine R_aload_n 0 dL_law_778 rfl rfl ?_
                                                        refine R_iload_n 3 dL_law_779 rfl rfl ?_
                                                        refine R_iconst dL_law_780 k_iconst_2 ?_
                                                        refine R_iadd dL_law_781 ?_
                                                        obtain ⟨t152, et152, hf⟩ := Option.bind_eq_some_iff.mp hf
                                                        refine R_iaload et152 dL_law_782 ?_
                                                        obtain ⟨u153, eu153, hf⟩ := Option.bind_eq_some_iff.mp hf
                                                        obtain ⟨q154, eq154, hf⟩ := Option.bind_eq_some_iff.mp hf
                                                        refine R_callV (mj := mi_X0_cell) (ci := 0) (q := (RX0, TX0, 4)) (As := [.int t151, .int t152]) (rest := []) (T_X0_cell eq154) eu153 rfl lV_L_112 ⟨rfl, oky_X0_cell⟩ (by decide) (by decide) rfl C1_0 (Nat.le_of_ble_eq_true rfl) dL_law_783 ?_
                                                        refine R_aload_n 2 dL_law_786 rfl rfl ?_
                                                        refine R_aload_n 0 dL_law_787 rfl rfl ?_
                                                        refine R_iload_n 3 dL_law_788 rfl rfl ?_
                                                        refine R_iconst dL_law_789 k_iconst_1 ?_
                                                        refine R_iadd dL_law_790 ?_
                                                        obtain ⟨t155, et155, hf⟩ := Option.bind_eq_some_iff.mp hf
                                                        refine R_iaload et155 dL_law_791 ?_
                                                        refine R_aload_n 0 dL_law_792 rfl rfl ?_
                                                        refine R_iload_n 3 dL_law_793 rfl rfl ?_
                                                        refine R_iconst dL_law_794 k_iconst_2 ?_
                                                        refine R_iadd dL_law_795 ?_
                                                        obtain ⟨t156, et156, hf⟩ := Option.bind_eq_some_iff.mp hf
                                                        refine R_iaload et156 dL_law_796 ?_
                                                        obtain ⟨u157, eu157, hf⟩ := Option.bind_eq_some_iff.mp hf
                                                        obtain ⟨q158, eq158, hf⟩ := Option.bind_eq_some_iff.mp hf
                                                        refine R_callV (mj := mi_X13_cell) (ci := 11) (q := (RX13, TX13, 24)) (As := [.int t155, .int t156]) (rest := [.int q154.1]) (T_X13_cell eq158) eu157 rfl lV_L_115 ⟨rfl, oky_X13_cell⟩ (by decide) (by decide) rfl (C1_i C1_0) (Nat.le_of_ble_eq_true rfl) dL_law_797 ?_
                                                        refine R_iceq (tgt := 1204) dL_law_800 (by decide) (fun hc => ?_) (fun hc => ?_)
                                                        · rw [if_pos hc] at hf
                                                          refine R_iinc (L' := [(3, .int (x3 + 4)), (0, va_rf x0), (1, va_rf x1), (2, va_rf x2)]) 3 dL_law_1204 rfl (k_inc_4 _) (by decide) rfl ?_
                                                          refine R_goto (tgt := 18) dL_law_1207 (by decide) ?_
                                                          refine R.sub [1, 2, 3, 0] (L' := [(0, va_rf x0), (1, va_rf x1), (2, va_rf x2), (3, .int (x3 + 4))]) rfl ?_
                                                          exact ih x0 x1 x2 (x3 + 4) q158.2 hf
                                                        · rw [if_neg hc] at hf
                                                          refine R_iconst dL_law_803 k_iconst_0 ?_
                                                          obtain rfl := Option.some.inj hf
                                                          exact R_iretZ0 rfl dL_law_804
                                                      · rw [if_neg hc24] at hf
                                                        by_cases hc25 : (t2 &&& 63) = 25
                                                        · rw [if_pos hc25] at hf
                                                          refine R_tswIn (tgt := 805) dL_law_32 (by rw [hc25]; decide) (by rw [hc25]; decide) (by rw [hc25]; rfl) (by decide) ?_
                                                          refine R_aload_n 1 dL_law_805 rfl rfl ?_
                                                          refine R_aload_n 0 dL_law_806 rfl rfl ?_
                                                          refine R_iload_n 3 dL_law_807 rfl rfl ?_
                                                          refine R_iconst dL_law_808 k_iconst_1 ?_
                                                          refine R_iadd dL_law_809 ?_
                                                          obtain ⟨t159, et159, hf⟩ := Option.bind_eq_some_iff.mp hf
                                                          refine R_iaload et159 dL_law_810 ?_
                                                          refine R_aload_n 0 dL_law_811 rfl rfl ?_
                                                          refine R_iload_n 3 dL_law_812 rfl rfl ?_
                                                          refine R_iconst dL_law_813 k_iconst_2 ?_
                                                          refine R_iadd dL_law_814 ?_
                                                          obtain ⟨t160, et160, hf⟩ := Option.bind_eq_some_iff.mp hf
                                                          refine R_iaload et160 dL_law_815 ?_
                                                          obtain ⟨u161, eu161, hf⟩ := Option.bind_eq_some_iff.mp hf
                                                          obtain ⟨q162, eq162, hf⟩ := Option.bind_eq_some_iff.mp hf
                                                          refine R_callV (mj := mi_X0_line) (ci := 0) (q := (RX0, TX0, 4)) (As := [.int t159, .int t160]) (rest := []) (T_X0_line eq162) eu161 rfl lV_L_116 ⟨rfl, oky_X0_line⟩ (by decide) (by decide) rfl C1_0 (Nat.le_of_ble_eq_true rfl) dL_law_816 ?_
                                                          refine R_aload_n 2 dL_law_819 rfl rfl ?_
                                                          refine R_aload_n 0 dL_law_820 rfl rfl ?_
                                                          refine R_iload_n 3 dL_law_821 rfl rfl ?_
                                                          refine R_iconst dL_law_822 k_iconst_1 ?_
                                                          refine R_iadd dL_law_823 ?_
                                                          obtain ⟨t163, et163, hf⟩ := Option.bind_eq_some_iff.mp hf
                                                          refine R_iaload et163 dL_law_824 ?_
                                                          refine R_aload_n 0 dL_law_825 rfl rfl ?_
                                                          refine R_iload_n 3 dL_law_826 rfl rfl ?_
                                                          refine R_iconst dL_law_827 k_iconst_2 ?_
                                                          refine R_iadd dL_law_828 ?_
                                                          obtain ⟨t164, et164, hf⟩ := Option.bind_eq_some_iff.mp hf
                                                          refine R_iaload et164 dL_law_829 ?_
                                                          obtain ⟨u165, eu165, hf⟩ := Option.bind_eq_some_iff.mp hf
                                                          obtain ⟨q166, eq166, hf⟩ := Option.bind_eq_some_iff.mp hf
                                                          refine R_callV (mj := mi_X13_line) (ci := 11) (q := (RX13, TX13, 24)) (As := [.int t163, .int t164]) (rest := [.int q162.1]) (T_X13_line eq166) eu165 rfl lV_L_119 ⟨rfl, oky_X13_line⟩ (by decide) (by decide) rfl (C1_i C1_0) (Nat.le_of_ble_eq_true rfl) dL_law_830 ?_
                                                          refine R_iceq (tgt := 1204) dL_law_833 (by decide) (fun hc => ?_) (fun hc => ?_)
                                                          · rw [if_pos hc] at hf
                                                            refine R_iinc (L' := [(3, .int (x3 + 4)), (0, va_rf x0), (1, va_rf x1), (2, va_rf x2)]) 3 dL_law_1204 rfl (k_inc_4 _) (by decide) rfl ?_
                                                            refine R_goto (tgt := 18) dL_law_1207 (by decide) ?_
                                                            refine R.sub [1, 2, 3, 0] (L' := [(0, va_rf x0), (1, va_rf x1), (2, va_rf x2), (3, .int (x3 + 4))]) rfl ?_
                                                            exact ih x0 x1 x2 (x3 + 4) q166.2 hf
                                                          · rw [if_neg hc] at hf
                                                            refine R_iconst dL_law_836 k_iconst_0 ?_
                                                            obtain rfl := Option.some.inj hf
                                                            exact R_iretZ0 rfl dL_law_837
                                                        · rw [if_neg hc25] at hf
                                                          by_cases hc26 : (t2 &&& 63) = 26
                                                          · rw [if_pos hc26] at hf
                                                            refine R_tswIn (tgt := 838) dL_law_32 (by rw [hc26]; decide) (by rw [hc26]; decide) (by rw [hc26]; rfl) (by decide) ?_
                                                            refine R_aload_n 1 dL_law_838 rfl rfl ?_
                                                            refine R_aload_n 0 dL_law_839 rfl rfl ?_
                                                            refine R_iload_n 3 dL_law_840 rfl rfl ?_
                                                            refine R_iconst dL_law_841 k_iconst_1 ?_
                                                            refine R_iadd dL_law_842 ?_
                                                            obtain ⟨t167, et167, hf⟩ := Option.bind_eq_some_iff.mp hf
                                                            refine R_iaload et167 dL_law_843 ?_
                                                            refine R_aload_n 0 dL_law_844 rfl rfl ?_
                                                            refine R_iload_n 3 dL_law_845 rfl rfl ?_
                                                            refine R_iconst dL_law_846 k_iconst_2 ?_
                                                            refine R_iadd dL_law_847 ?_
                                                            obtain ⟨t168, et168, hf⟩ := Option.bind_eq_some_iff.mp hf
                                                            refine R_iaload et168 dL_law_848 ?_
                                                            obtain ⟨u169, eu169, hf⟩ := Option.bind_eq_some_iff.mp hf
                                                            obtain ⟨q170, eq170, hf⟩ := Option.bind_eq_some_iff.mp hf
                                                            refine R_callV (mj := mi_X0_block) (ci := 0) (q := (RX0, TX0, 4)) (As := [.int t167, .int t168]) (rest := []) (T_X0_block eq170) eu169 rfl lV_L_120 ⟨rfl, oky_X0_block⟩ (by decide) (by decide) rfl C1_0 (Nat.le_of_ble_eq_true rfl) dL_law_849 ?_
                                                            refine R_aload_n 2 dL_law_852 rfl rfl ?_
                                                            refine R_aload_n 0 dL_law_853 rfl rfl ?_
                                                            refine R_iload_n 3 dL_law_854 rfl rfl ?_
                                                            refine R_iconst dL_law_855 k_iconst_1 ?_
                                                            refine R_iadd dL_law_856 ?_
                                                            obtain ⟨t171, et171, hf⟩ := Option.bind_eq_some_iff.mp hf
                                                            refine R_iaload et171 dL_law_857 ?_
                                                            refine R_aload_n 0 dL_law_858 rfl rfl ?_
                                                            refine R_iload_n 3 dL_law_859 rfl rfl ?_
                                                            refine R_iconst dL_law_860 k_iconst_2 ?_
                                                            refine R_iadd dL_law_861 ?_
                                                            obtain ⟨t172, et172, hf⟩ := Option.bind_eq_some_iff.mp hf
                                                            refine R_iaload et172 dL_law_862 ?_
                                                            obtain ⟨u173, eu173, hf⟩ := Option.bind_eq_some_iff.mp hf
                                                            obtain ⟨q174, eq174, hf⟩ := Option.bind_eq_some_iff.mp hf
                                                            refine R_callV (mj := mi_X13_block) (ci := 11) (q := (RX13, TX13, 24)) (As := [.int t171, .int t172]) (rest := [.int q170.1]) (T_X13_block eq174) eu173 rfl lV_L_123 ⟨rfl, oky_X13_block⟩ (by decide) (by decide) rfl (C1_i C1_0) (Nat.le_of_ble_eq_true rfl) dL_law_863 ?_
                                                            refine R_iceq (tgt := 1204) dL_law_866 (by decide) (fun hc => ?_) (fun hc => ?_)
                                                            · rw [if_pos hc] at hf
                                                              refine R_iinc (L' := [(3, .int (x3 + 4)), (0, va_rf x0), (1, va_rf x1), (2, va_rf x2)]) 3 dL_law_1204 rfl (k_inc_4 _) (by decide) rfl ?_
                                                              refine R_goto (tgt := 18) dL_law_1207 (by decide) ?_
                                                              refine R.sub [1, 2, 3, 0] (L' := [(0, va_rf x0), (1, va_rf x1), (2, va_rf x2), (3, .int (x3 + 4))]) rfl ?_
                                                              exact ih x0 x1 x2 (x3 + 4) q174.2 hf
                                                            · rw [if_neg hc] at hf
                                                              refine R_iconst dL_law_869 k_iconst_0 ?_
                                                              obtain rfl := Option.some.inj hf
                                                              exact R_iretZ0 rfl dL_law_870
                                                          · rw [if_neg hc26] at hf
                                                            by_cases hc27 : (t2 &&& 63) = 27
                                                            · rw [if_pos hc27] at hf
                                                              refine R_tswIn (tgt := 871) dL_law_32 (by rw [hc27]; decide) (by rw [hc27]; decide) (by rw [hc27]; rfl) (by decide) ?_
                                                              refine R_aload_n 1 dL_law_871 rfl rfl ?_
                                                              refine R_aload_n 0 dL_law_872 rfl rfl ?_
                                                              refine R_iload_n 3 dL_law_873 rfl rfl ?_
                                                              refine R_iconst dL_law_874 k_iconst_1 ?_
                                                              refine R_iadd dL_law_875 ?_
                                                              obtain ⟨t175, et175, hf⟩ := Option.bind_eq_some_iff.mp hf
                                                              refine R_iaload et175 dL_law_876 ?_
                                                              refine R_aload_n 0 dL_law_877 rfl rfl ?_
                                                              refine R_iload_n 3 dL_law_878 rfl rfl ?_
                                                              refine R_iconst dL_law_879 k_iconst_2 ?_
                                                              refine R_iadd dL_law_880 ?_
                                                              obtain ⟨t176, et176, hf⟩ := Option.bind_eq_some_iff.mp hf
                                                              refine R_iaload et176 dL_law_881 ?_
                                                              obtain ⟨u177, eu177, hf⟩ := Option.bind_eq_some_iff.mp hf
                                                              obtain ⟨q178, eq178, hf⟩ := Option.bind_eq_some_iff.mp hf
                                                              refine R_callV (mj := mi_X0_rule) (ci := 0) (q := (RX0, TX0, 4)) (As := [.int t175, .int t176]) (rest := []) (T_X0_rule eq178) eu177 rfl lV_L_124 ⟨rfl, oky_X0_rule⟩ (by decide) (by decide) rfl C1_0 (Nat.le_of_ble_eq_true rfl) dL_law_882 ?_
                                                              refine R_aload_n 2 dL_law_885 rfl rfl ?_
                                                              refine R_aload_n 0 dL_law_886 rfl rfl ?_
                                                              refine R_iload_n 3 dL_law_887 rfl rfl ?_
                                                              refine R_iconst dL_law_888 k_iconst_1 ?_
                                                              refine R_iadd dL_law_889 ?_
                                                              obtain ⟨t179, et179, hf⟩ := Option.bind_eq_some_iff.mp hf
                                                              refine R_iaload et179 dL_law_890 ?_
                                                              refine R_aload_n 0 dL_law_891 rfl rfl ?_
                                                              refine R_iload_n 3 dL_law_892 rfl rfl ?_
                                                              refine R_iconst dL_law_893 k_iconst_2 ?_
                                                              refine R_iadd dL_law_894 ?_
                                                              obtain ⟨t180, et180, hf⟩ := Option.bind_eq_some_iff.mp hf
                                                              refine R_iaload et180 dL_law_895 ?_
                                                              obtain ⟨u181, eu181, hf⟩ := Option.bind_eq_some_iff.mp hf
                                                              obtain ⟨q182, eq182, hf⟩ := Option.bind_eq_some_iff.mp hf
                                                              refine R_callV (mj := mi_X13_rule) (ci := 11) (q := (RX13, TX13, 24)) (As := [.int t179, .int t180]) (rest := [.int q178.1]) (T_X13_rule eq182) eu181 rfl lV_L_127 ⟨rfl, oky_X13_rule⟩ (by decide) (by decide) rfl (C1_i C1_0) (Nat.le_of_ble_eq_true rfl) dL_law_896 ?_
                                                              refine R_iceq (tgt := 1204) dL_law_899 (by decide) (fun hc => ?_) (fun hc => ?_)
                                                              · rw [if_pos hc] at hf
                                                                refine R_iinc (L' := [(3, .int (x3 + 4)), (0, va_rf x0), (1, va_rf x1), (2, va_rf x2)]) 3 dL_law_1204 rfl (k_inc_4 _) (by decide) rfl ?_
                                                                refine R_goto (tgt := 18) dL_law_1207 (by decide) ?_
                                                                refine R.sub [1, 2, 3, 0] (L' := [(0, va_rf x0), (1, va_rf x1), (2, va_rf x2), (3, .int (x3 + 4))]) rfl ?_
                                                                exact ih x0 x1 x2 (x3 + 4) q182.2 hf
                                                              · rw [if_neg hc] at hf
                                                                refine R_iconst dL_law_902 k_iconst_0 ?_
                                                                obtain rfl := Option.some.inj hf
                                                                exact R_iretZ0 rfl dL_law_903
                                                            · rw [if_neg hc27] at hf
                                                              by_cases hc28 : (t2 &&& 63) = 28
                                                              · rw [if_pos hc28] at hf
                                                                refine R_tswIn (tgt := 904) dL_law_32 (by rw [hc28]; decide) (by rw [hc28]; decide) (by rw [hc28]; rfl) (by decide) ?_
                                                                refine R_aload_n 1 dL_law_904 rfl rfl ?_
                                                                refine R_aload_n 0 dL_law_905 rfl rfl ?_
                                                                refine R_iload_n 3 dL_law_906 rfl rfl ?_
                                                                refine R_iconst dL_law_907 k_iconst_1 ?_
                                                                refine R_iadd dL_law_908 ?_
                                                                obtain ⟨t183, et183, hf⟩ := Option.bind_eq_some_iff.mp hf
                                                                refine R_iaload et183 dL_law_909 ?_
                                                                refine R_aload_n 0 dL_law_910 rfl rfl ?_
                                                                refine R_iload_n 3 dL_law_911 rfl rfl ?_
                                                                refine R_iconst dL_law_912 k_iconst_2 ?_
                                                                refine R_iadd dL_law_913 ?_
                                                                obtain ⟨t184, et184, hf⟩ := Option.bind_eq_some_iff.mp hf
                                                                refine R_iaload et184 dL_law_914 ?_
                                                                obtain ⟨u185, eu185, hf⟩ := Option.bind_eq_some_iff.mp hf
                                                                obtain ⟨q186, eq186, hf⟩ := Option.bind_eq_some_iff.mp hf
                                                                refine R_callV (mj := mi_X0_possible) (ci := 0) (q := (RX0, TX0, 4)) (As := [.int t183, .int t184]) (rest := []) (T_X0_possible eq186) eu185 rfl lV_L_128 ⟨rfl, oky_X0_possible⟩ (by decide) (by decide) rfl C1_0 (Nat.le_of_ble_eq_true rfl) dL_law_915 ?_
                                                                refine R_aload_n 2 dL_law_918 rfl rfl ?_
                                                                refine R_aload_n 0 dL_law_919 rfl rfl ?_
                                                                refine R_iload_n 3 dL_law_920 rfl rfl ?_
                                                                refine R_iconst dL_law_921 k_iconst_1 ?_
                                                                refine R_iadd dL_law_922 ?_
                                                                obtain ⟨t187, et187, hf⟩ := Option.bind_eq_some_iff.mp hf
                                                                refine R_iaload et187 dL_law_923 ?_
                                                                refine R_aload_n 0 dL_law_924 rfl rfl ?_
                                                                refine R_iload_n 3 dL_law_925 rfl rfl ?_
                                                                refine R_iconst dL_law_926 k_iconst_2 ?_
                                                                refine R_iadd dL_law_927 ?_
                                                                obtain ⟨t188, et188, hf⟩ := Option.bind_eq_some_iff.mp hf
                                                                refine R_iaload et188 dL_law_928 ?_
                                                                obtain ⟨u189, eu189, hf⟩ := Option.bind_eq_some_iff.mp hf
                                                                obtain ⟨q190, eq190, hf⟩ := Option.bind_eq_some_iff.mp hf
                                                                refine R_callV (mj := mi_X13_possible) (ci := 11) (q := (RX13, TX13, 24)) (As := [.int t187, .int t188]) (rest := [.int q186.1]) (T_X13_possible eq190) eu189 rfl lV_L_131 ⟨rfl, oky_X13_possible⟩ (by decide) (by decide) rfl (C1_i C1_0) (Nat.le_of_ble_eq_true rfl) dL_law_929 ?_
                                                                refine R_iceq (tgt := 1204) dL_law_932 (by decide) (fun hc => ?_) (fun hc => ?_)
                                                                · rw [if_pos hc] at hf
                                                                  refine R_iinc (L' := [(3, .int (x3 + 4)), (0, va_rf x0), (1, va_rf x1), (2, va_rf x2)]) 3 dL_law_1204 rfl (k_inc_4 _) (by decide) rfl ?_
                                                                  refine R_goto (tgt := 18) dL_law_1207 (by decide) ?_
                                                                  refine R.sub [1, 2, 3, 0] (L' := [(0, va_rf x0), (1, va_rf x1), (2, va_rf x2), (3, .int (x3 + 4))]) rfl ?_
                                                                  exact ih x0 x1 x2 (x3 + 4) q190.2 hf
                                                                · rw [if_neg hc] at hf
                                                                  refine R_iconst dL_law_935 k_iconst_0 ?_
                                                                  obtain rfl := Option.some.inj hf
                                                                  exact R_iretZ0 rfl dL_law_936
                                                              · rw [if_neg hc28] at hf
                                                                by_cases hc29 : (t2 &&& 63) = 29
                                                                · rw [if_pos hc29] at hf
                                                                  refine R_tswIn (tgt := 937) dL_law_32 (by rw [hc29]; decide) (by rw [hc29]; decide) (by rw [hc29]; rfl) (by decide) ?_
                                                                  refine R_aload_n 1 dL_law_937 rfl rfl ?_
                                                                  refine R_aload_n 0 dL_law_938 rfl rfl ?_
                                                                  refine R_iload_n 3 dL_law_939 rfl rfl ?_
                                                                  refine R_iconst dL_law_940 k_iconst_1 ?_
                                                                  refine R_iadd dL_law_941 ?_
                                                                  obtain ⟨t191, et191, hf⟩ := Option.bind_eq_some_iff.mp hf
                                                                  refine R_iaload et191 dL_law_942 ?_
                                                                  refine R_aload_n 0 dL_law_943 rfl rfl ?_
                                                                  refine R_iload_n 3 dL_law_944 rfl rfl ?_
                                                                  refine R_iconst dL_law_945 k_iconst_2 ?_
                                                                  refine R_iadd dL_law_946 ?_
                                                                  obtain ⟨t192, et192, hf⟩ := Option.bind_eq_some_iff.mp hf
                                                                  refine R_iaload et192 dL_law_947 ?_
                                                                  refine R_aload_n 0 dL_law_948 rfl rfl ?_
                                                                  refine R_iload_n 3 dL_law_949 rfl rfl ?_
                                                                  refine R_iconst dL_law_950 k_iconst_3 ?_
                                                                  refine R_iadd dL_law_951 ?_
                                                                  obtain ⟨t193, et193, hf⟩ := Option.bind_eq_some_iff.mp hf
                                                                  refine R_iaload et193 dL_law_952 ?_
                                                                  obtain ⟨u194, eu194, hf⟩ := Option.bind_eq_some_iff.mp hf
                                                                  obtain ⟨q195, eq195, hf⟩ := Option.bind_eq_some_iff.mp hf
                                                                  refine R_callV (mj := mi_X0_why) (ci := 0) (q := (RX0, TX0, 4)) (As := [.int t191, .int t192, .int t193]) (rest := []) (T_X0_why eq195) eu194 rfl lV_L_132 ⟨rfl, oky_X0_why⟩ (by decide) (by decide) rfl C1_0 (Nat.le_of_ble_eq_true rfl) dL_law_953 ?_
                                                                  refine R_aload_n 2 dL_law_956 rfl rfl ?_
                                                                  refine R_aload_n 0 dL_law_957 rfl rfl ?_
                                                                  refine R_iload_n 3 dL_law_958 rfl rfl ?_
                                                                  refine R_iconst dL_law_959 k_iconst_1 ?_
                                                                  refine R_iadd dL_law_960 ?_
                                                                  obtain ⟨t196, et196, hf⟩ := Option.bind_eq_some_iff.mp hf
                                                                  refine R_iaload et196 dL_law_961 ?_
                                                                  refine R_aload_n 0 dL_law_962 rfl rfl ?_
                                                                  refine R_iload_n 3 dL_law_963 rfl rfl ?_
                                                                  refine R_iconst dL_law_964 k_iconst_2 ?_
                                                                  refine R_iadd dL_law_965 ?_
                                                                  obtain ⟨t197, et197, hf⟩ := Option.bind_eq_some_iff.mp hf
                                                                  refine R_iaload et197 dL_law_966 ?_
                                                                  refine R_aload_n 0 dL_law_967 rfl rfl ?_
                                                                  refine R_iload_n 3 dL_law_968 rfl rfl ?_
                                                                  refine R_iconst dL_law_969 k_iconst_3 ?_
                                                                  refine R_iadd dL_law_970 ?_
                                                                  obtain ⟨t198, et198, hf⟩ := Option.bind_eq_some_iff.mp hf
                                                                  refine R_iaload et198 dL_law_971 ?_
                                                                  obtain ⟨u199, eu199, hf⟩ := Option.bind_eq_some_iff.mp hf
                                                                  obtain ⟨q200, eq200, hf⟩ := Option.bind_eq_some_iff.mp hf
                                                                  refine R_callV (mj := mi_X13_why) (ci := 11) (q := (RX13, TX13, 24)) (As := [.int t196, .int t197, .int t198]) (rest := [.int q195.1]) (T_X13_why eq200) eu199 rfl lV_L_136 ⟨rfl, oky_X13_why⟩ (by decide) (by decide) rfl (C1_i C1_0) (Nat.le_of_ble_eq_true rfl) dL_law_972 ?_
                                                                  refine R_iceq (tgt := 1204) dL_law_975 (by decide) (fun hc => ?_) (fun hc => ?_)
                                                                  · rw [if_pos hc] at hf
                                                                    refine R_iinc (L' := [(3, .int (x3 + 4)), (0, va_rf x0), (1, va_rf x1), (2, va_rf x2)]) 3 dL_law_1204 rfl (k_inc_4 _) (by decide) rfl ?_
                                                                    refine R_goto (tgt := 18) dL_law_1207 (by decide) ?_
                                                                    refine R.sub [1, 2, 3, 0] (L' := [(0, va_rf x0), (1, va_rf x1), (2, va_rf x2), (3, .int (x3 + 4))]) rfl ?_
                                                                    exact ih x0 x1 x2 (x3 + 4) q200.2 hf
                                                                  · rw [if_neg hc] at hf
                                                                    refine R_iconst dL_law_978 k_iconst_0 ?_
                                                                    obtain rfl := Option.some.inj hf
                                                                    exact R_iretZ0 rfl dL_law_979
                                                                · rw [if_neg hc29] at hf
                                                                  by_cases hc30 : (t2 &&& 63) = 30
                                                                  · rw [if_pos hc30] at hf
                                                                    refine R_tswIn (tgt := 980) dL_law_32 (by rw [hc30]; decide) (by rw [hc30]; decide) (by rw [hc30]; rfl) (by decide) ?_
                                                                    refine R_aload_n 1 dL_law_980 rfl rfl ?_
                                                                    refine R_aload_n 0 dL_law_981 rfl rfl ?_
                                                                    refine R_iload_n 3 dL_law_982 rfl rfl ?_
                                                                    refine R_iconst dL_law_983 k_iconst_1 ?_
                                                                    refine R_iadd dL_law_984 ?_
                                                                    obtain ⟨t201, et201, hf⟩ := Option.bind_eq_some_iff.mp hf
                                                                    refine R_iaload et201 dL_law_985 ?_
                                                                    obtain ⟨u202, eu202, hf⟩ := Option.bind_eq_some_iff.mp hf
                                                                    obtain ⟨q203, eq203, hf⟩ := Option.bind_eq_some_iff.mp hf
                                                                    refine R_callV (mj := mi_X0_next) (ci := 0) (q := (RX0, TX0, 4)) (As := [.int t201]) (rest := []) (T_X0_next eq203) eu202 rfl lV_L_137 ⟨rfl, oky_X0_next⟩ (by decide) (by decide) rfl C1_0 (Nat.le_of_ble_eq_true rfl) dL_law_986 ?_
                                                                    refine R_aload_n 2 dL_law_989 rfl rfl ?_
                                                                    refine R_aload_n 0 dL_law_990 rfl rfl ?_
                                                                    refine R_iload_n 3 dL_law_991 rfl rfl ?_
                                                                    refine R_iconst dL_law_992 k_iconst_1 ?_
                                                                    refine R_iadd dL_law_993 ?_
                                                                    obtain ⟨t204, et204, hf⟩ := Option.bind_eq_some_iff.mp hf
                                                                    refine R_iaload et204 dL_law_994 ?_
                                                                    obtain ⟨u205, eu205, hf⟩ := Option.bind_eq_some_iff.mp hf
                                                                    obtain ⟨q206, eq206, hf⟩ := Option.bind_eq_some_iff.mp hf
                                                                    refine R_callV (mj := mi_X13_next) (ci := 11) (q := (RX13, TX13, 24)) (As := [.int t204]) (rest := [.int q203.1]) (T_X13_next eq206) eu205 rfl lV_L_140 ⟨rfl, oky_X13_next⟩ (by decide) (by decide) rfl (C1_i C1_0) (Nat.le_of_ble_eq_true rfl) dL_law_995 ?_
                                                                    refine R_iceq (tgt := 1204) dL_law_998 (by decide) (fun hc => ?_) (fun hc => ?_)
                                                                    · rw [if_pos hc] at hf
                                                                      refine R_iinc (L' := [(3, .int (x3 + 4)), (0, va_rf x0), (1, va_rf x1), (2, va_rf x2)]) 3 dL_law_1204 rfl (k_inc_4 _) (by decide) rfl ?_
                                                                      refine R_goto (tgt := 18) dL_law_1207 (by decide) ?_
                                                                      refine R.sub [1, 2, 3, 0] (L' := [(0, va_rf x0), (1, va_rf x1), (2, va_rf x2), (3, .int (x3 + 4))]) rfl ?_
                                                                      exact ih x0 x1 x2 (x3 + 4) q206.2 hf
                                                                    · rw [if_neg hc] at hf
                                                                      refine R_iconst dL_law_1001 k_iconst_0 ?_
                                                                      obtain rfl := Option.some.inj hf
                                                                      exact R_iretZ0 rfl dL_law_1002
                                                                  · rw [if_neg hc30] at hf
                                                                    by_cases hc31 : (t2 &&& 63) = 31
                                                                    · rw [if_pos hc31] at hf
                                                                      refine R_tswIn (tgt := 1003) dL_law_32 (by rw [hc31]; decide) (by rw [hc31]; decide) (by rw [hc31]; rfl) (by decide) ?_
                                                                      refine R_aload_n 1 dL_law_1003 rfl rfl ?_
                                                                      refine R_aload_n 0 dL_law_1004 rfl rfl ?_
                                                                      refine R_iload_n 3 dL_law_1005 rfl rfl ?_
                                                                      refine R_iconst dL_law_1006 k_iconst_1 ?_
                                                                      refine R_iadd dL_law_1007 ?_
                                                                      obtain ⟨t207, et207, hf⟩ := Option.bind_eq_some_iff.mp hf
                                                                      refine R_iaload et207 dL_law_1008 ?_
                                                                      obtain ⟨u208, eu208, hf⟩ := Option.bind_eq_some_iff.mp hf
                                                                      obtain ⟨q209, eq209, hf⟩ := Option.bind_eq_some_iff.mp hf
                                                                      refine R_callV (mj := mi_X0_run) (ci := 0) (q := (RX0, TX0, 4)) (As := [.int t207]) (rest := []) (T_X0_run eq209) eu208 rfl lV_L_141 ⟨rfl, oky_X0_run⟩ (by decide) (by decide) rfl C1_0 (Nat.le_of_ble_eq_true rfl) dL_law_1009 ?_
                                                                      refine R_aload_n 2 dL_law_1012 rfl rfl ?_
                                                                      refine R_aload_n 0 dL_law_1013 rfl rfl ?_
                                                                      refine R_iload_n 3 dL_law_1014 rfl rfl ?_
                                                                      refine R_iconst dL_law_1015 k_iconst_1 ?_
                                                                      refine R_iadd dL_law_1016 ?_
                                                                      obtain ⟨t210, et210, hf⟩ := Option.bind_eq_some_iff.mp hf
                                                                      refine R_iaload et210 dL_law_1017 ?_
                                                                      obtain ⟨u211, eu211, hf⟩ := Option.bind_eq_some_iff.mp hf
                                                                      obtain ⟨q212, eq212, hf⟩ := Option.bind_eq_some_iff.mp hf
                                                                      refine R_callV (mj := mi_X13_run) (ci := 11) (q := (RX13, TX13, 24)) (As := [.int t210]) (rest := [.int q209.1]) (T_X13_run eq212) eu211 rfl lV_L_144 ⟨rfl, oky_X13_run⟩ (by decide) (by decide) rfl (C1_i C1_0) (Nat.le_of_ble_eq_true rfl) dL_law_1018 ?_
                                                                      refine R_iceq (tgt := 1204) dL_law_1021 (by decide) (fun hc => ?_) (fun hc => ?_)
                                                                      · rw [if_pos hc] at hf
                                                                        refine R_iinc (L' := [(3, .int (x3 + 4)), (0, va_rf x0), (1, va_rf x1), (2, va_rf x2)]) 3 dL_law_1204 rfl (k_inc_4 _) (by decide) rfl ?_
                                                                        refine R_goto (tgt := 18) dL_law_1207 (by decide) ?_
                                                                        refine R.sub [1, 2, 3, 0] (L' := [(0, va_rf x0), (1, va_rf x1), (2, va_rf x2), (3, .int (x3 + 4))]) rfl ?_
                                                                        exact ih x0 x1 x2 (x3 + 4) q212.2 hf
                                                                      · rw [if_neg hc] at hf
                                                                        refine R_iconst dL_law_1024 k_iconst_0 ?_
                                                                        obtain rfl := Option.some.inj hf
                                                                        exact R_iretZ0 rfl dL_law_1025
                                                                    · rw [if_neg hc31] at hf
                                                                      by_cases hc32 : (t2 &&& 63) = 32
                                                                      · rw [if_pos hc32] at hf
                                                                        refine R_tswIn (tgt := 1026) dL_law_32 (by rw [hc32]; decide) (by rw [hc32]; decide) (by rw [hc32]; rfl) (by decide) ?_
                                                                        refine R_aload_n 1 dL_law_1026 rfl rfl ?_
                                                                        refine R_aload_n 0 dL_law_1027 rfl rfl ?_
                                                                        refine R_iload_n 3 dL_law_1028 rfl rfl ?_
                                                                        refine R_iconst dL_law_1029 k_iconst_1 ?_
                                                                        refine R_iadd dL_law_1030 ?_
                                                                        obtain ⟨t213, et213, hf⟩ := Option.bind_eq_some_iff.mp hf
                                                                        refine R_iaload et213 dL_law_1031 ?_
                                                                        refine R_aload_n 0 dL_law_1032 rfl rfl ?_
                                                                        refine R_iload_n 3 dL_law_1033 rfl rfl ?_
                                                                        refine R_iconst dL_law_1034 k_iconst_2 ?_
                                                                        refine R_iadd dL_law_1035 ?_
                                                                        obtain ⟨t214, et214, hf⟩ := Option.bind_eq_some_iff.mp hf
                                                                        refine R_iaload et214 dL_law_1036 ?_
                                                                        obtain ⟨u215, eu215, hf⟩ := Option.bind_eq_some_iff.mp hf
                                                                        obtain ⟨q216, eq216, hf⟩ := Option.bind_eq_some_iff.mp hf
                                                                        refine R_callV (mj := mi_X0_step) (ci := 0) (q := (RX0, TX0, 4)) (As := [.int t213, .int t214]) (rest := []) (T_X0_step eq216) eu215 rfl lV_L_145 ⟨rfl, oky_X0_step⟩ (by decide) (by decide) rfl C1_0 (Nat.le_of_ble_eq_true rfl) dL_law_1037 ?_
                                                                        refine R_aload_n 2 dL_law_1040 rfl rfl ?_
                                                                        refine R_aload_n 0 dL_law_1041 rfl rfl ?_
                                                                        refine R_iload_n 3 dL_law_1042 rfl rfl ?_
                                                                        refine R_iconst dL_law_1043 k_iconst_1 ?_
                                                                        refine R_iadd dL_law_1044 ?_
                                                                        obtain ⟨t217, et217, hf⟩ := Option.bind_eq_some_iff.mp hf
                                                                        refine R_iaload et217 dL_law_1045 ?_
                                                                        refine R_aload_n 0 dL_law_1046 rfl rfl ?_
                                                                        refine R_iload_n 3 dL_law_1047 rfl rfl ?_
                                                                        refine R_iconst dL_law_1048 k_iconst_2 ?_
                                                                        refine R_iadd dL_law_1049 ?_
                                                                        obtain ⟨t218, et218, hf⟩ := Option.bind_eq_some_iff.mp hf
                                                                        refine R_iaload et218 dL_law_1050 ?_
                                                                        obtain ⟨u219, eu219, hf⟩ := Option.bind_eq_some_iff.mp hf
                                                                        obtain ⟨q220, eq220, hf⟩ := Option.bind_eq_some_iff.mp hf
                                                                        refine R_callV (mj := mi_X13_step) (ci := 11) (q := (RX13, TX13, 24)) (As := [.int t217, .int t218]) (rest := [.int q216.1]) (T_X13_step eq220) eu219 rfl lV_L_148 ⟨rfl, oky_X13_step⟩ (by decide) (by decide) rfl (C1_i C1_0) (Nat.le_of_ble_eq_true rfl) dL_law_1051 ?_
                                                                        refine R_iceq (tgt := 1204) dL_law_1054 (by decide) (fun hc => ?_) (fun hc => ?_)
                                                                        · rw [if_pos hc] at hf
                                                                          refine R_iinc (L' := [(3, .int (x3 + 4)), (0, va_rf x0), (1, va_rf x1), (2, va_rf x2)]) 3 dL_law_1204 rfl (k_inc_4 _) (by decide) rfl ?_
                                                                          refine R_goto (tgt := 18) dL_law_1207 (by decide) ?_
                                                                          refine R.sub [1, 2, 3, 0] (L' := [(0, va_rf x0), (1, va_rf x1), (2, va_rf x2), (3, .int (x3 + 4))]) rfl ?_
                                                                          exact ih x0 x1 x2 (x3 + 4) q220.2 hf
                                                                        · rw [if_neg hc] at hf
                                                                          refine R_iconst dL_law_1057 k_iconst_0 ?_
                                                                          obtain rfl := Option.some.inj hf
                                                                          exact R_iretZ0 rfl dL_law_1058
                                                                      · rw [if_neg hc32] at hf
                                                                        by_cases hc33 : (t2 &&& 63) = 33
                                                                        · rw [if_pos hc33] at hf
                                                                          refine R_tswIn (tgt := 1059) dL_law_32 (by rw [hc33]; decide) (by rw [hc33]; decide) (by rw [hc33]; rfl) (by decide) ?_
                                                                          refine R_aload_n 1 dL_law_1059 rfl rfl ?_
                                                                          refine R_aload_n 0 dL_law_1060 rfl rfl ?_
                                                                          refine R_iload_n 3 dL_law_1061 rfl rfl ?_
                                                                          refine R_iconst dL_law_1062 k_iconst_1 ?_
                                                                          refine R_iadd dL_law_1063 ?_
                                                                          obtain ⟨t221, et221, hf⟩ := Option.bind_eq_some_iff.mp hf
                                                                          refine R_iaload et221 dL_law_1064 ?_
                                                                          obtain ⟨u222, eu222, hf⟩ := Option.bind_eq_some_iff.mp hf
                                                                          obtain ⟨q223, eq223, hf⟩ := Option.bind_eq_some_iff.mp hf
                                                                          refine R_callV (mj := mi_X0_rank) (ci := 0) (q := (RX0, TX0, 4)) (As := [.int t221]) (rest := []) (T_X0_rank eq223) eu222 rfl lV_L_149 ⟨rfl, oky_X0_rank⟩ (by decide) (by decide) rfl C1_0 (Nat.le_of_ble_eq_true rfl) dL_law_1065 ?_
                                                                          refine R_aload_n 2 dL_law_1068 rfl rfl ?_
                                                                          refine R_aload_n 0 dL_law_1069 rfl rfl ?_
                                                                          refine R_iload_n 3 dL_law_1070 rfl rfl ?_
                                                                          refine R_iconst dL_law_1071 k_iconst_1 ?_
                                                                          refine R_iadd dL_law_1072 ?_
                                                                          obtain ⟨t224, et224, hf⟩ := Option.bind_eq_some_iff.mp hf
                                                                          refine R_iaload et224 dL_law_1073 ?_
                                                                          obtain ⟨u225, eu225, hf⟩ := Option.bind_eq_some_iff.mp hf
                                                                          obtain ⟨q226, eq226, hf⟩ := Option.bind_eq_some_iff.mp hf
                                                                          refine R_callV (mj := mi_X13_rank) (ci := 11) (q := (RX13, TX13, 24)) (As := [.int t224]) (rest := [.int q223.1]) (T_X13_rank eq226) eu225 rfl lV_L_152 ⟨rfl, oky_X13_rank⟩ (by decide) (by decide) rfl (C1_i C1_0) (Nat.le_of_ble_eq_true rfl) dL_law_1074 ?_
                                                                          refine R_iceq (tgt := 1204) dL_law_1077 (by decide) (fun hc => ?_) (fun hc => ?_)
                                                                          · rw [if_pos hc] at hf
                                                                            refine R_iinc (L' := [(3, .int (x3 + 4)), (0, va_rf x0), (1, va_rf x1), (2, va_rf x2)]) 3 dL_law_1204 rfl (k_inc_4 _) (by decide) rfl ?_
                                                                            refine R_goto (tgt := 18) dL_law_1207 (by decide) ?_
                                                                            refine R.sub [1, 2, 3, 0] (L' := [(0, va_rf x0), (1, va_rf x1), (2, va_rf x2), (3, .int (x3 + 4))]) rfl ?_
                                                                            exact ih x0 x1 x2 (x3 + 4) q226.2 hf
                                                                          · rw [if_neg hc] at hf
                                                                            refine R_iconst dL_law_1080 k_iconst_0 ?_
                                                                            obtain rfl := Option.some.inj hf
                                                                            exact R_iretZ0 rfl dL_law_1081
                                                                        · rw [if_neg hc33] at hf
                                                                          by_cases hc34 : (t2 &&& 63) = 34
                                                                          · rw [if_pos hc34] at hf
                                                                            refine R_tswIn (tgt := 1082) dL_law_32 (by rw [hc34]; decide) (by rw [hc34]; decide) (by rw [hc34]; rfl) (by decide) ?_
                                                                            refine R_aload_n 1 dL_law_1082 rfl rfl ?_
                                                                            refine R_aload_n 0 dL_law_1083 rfl rfl ?_
                                                                            refine R_iload_n 3 dL_law_1084 rfl rfl ?_
                                                                            refine R_iconst dL_law_1085 k_iconst_1 ?_
                                                                            refine R_iadd dL_law_1086 ?_
                                                                            obtain ⟨t227, et227, hf⟩ := Option.bind_eq_some_iff.mp hf
                                                                            refine R_iaload et227 dL_law_1087 ?_
                                                                            refine R_aload_n 0 dL_law_1088 rfl rfl ?_
                                                                            refine R_iload_n 3 dL_law_1089 rfl rfl ?_
                                                                            refine R_iconst dL_law_1090 k_iconst_2 ?_
                                                                            refine R_iadd dL_law_1091 ?_
                                                                            obtain ⟨t228, et228, hf⟩ := Option.bind_eq_some_iff.mp hf
                                                                            refine R_iaload et228 dL_law_1092 ?_
                                                                            refine R_aload_n 0 dL_law_1093 rfl rfl ?_
                                                                            refine R_iload_n 3 dL_law_1094 rfl rfl ?_
                                                                            refine R_iconst dL_law_1095 k_iconst_3 ?_
                                                                            refine R_iadd dL_law_1096 ?_
                                                                            obtain ⟨t229, et229, hf⟩ := Option.bind_eq_some_iff.mp hf
                                                                            refine R_iaload et229 dL_law_1097 ?_
                                                                            obtain ⟨u230, eu230, hf⟩ := Option.bind_eq_some_iff.mp hf
                                                                            obtain ⟨q231, eq231, hf⟩ := Option.bind_eq_some_iff.mp hf
                                                                            refine R_callV (mj := mi_X0_suppose) (ci := 0) (q := (RX0, TX0, 4)) (As := [.int t227, .int t228, .int t229]) (rest := []) (T_X0_suppose eq231) eu230 rfl lV_L_153 ⟨rfl, oky_X0_suppose⟩ (by decide) (by decide) rfl C1_0 (Nat.le_of_ble_eq_true rfl) dL_law_1098 ?_
                                                                            refine R_aload_n 2 dL_law_1101 rfl rfl ?_
                                                                            refine R_aload_n 0 dL_law_1102 rfl rfl ?_
                                                                            refine R_iload_n 3 dL_law_1103 rfl rfl ?_
                                                                            refine R_iconst dL_law_1104 k_iconst_1 ?_
                                                                            refine R_iadd dL_law_1105 ?_
                                                                            obtain ⟨t232, et232, hf⟩ := Option.bind_eq_some_iff.mp hf
                                                                            refine R_iaload et232 dL_law_1106 ?_
                                                                            refine R_aload_n 0 dL_law_1107 rfl rfl ?_
                                                                            refine R_iload_n 3 dL_law_1108 rfl rfl ?_
                                                                            refine R_iconst dL_law_1109 k_iconst_2 ?_
                                                                            refine R_iadd dL_law_1110 ?_
                                                                            obtain ⟨t233, et233, hf⟩ := Option.bind_eq_some_iff.mp hf
                                                                            refine R_iaload et233 dL_law_1111 ?_
                                                                            refine R_aload_n 0 dL_law_1112 rfl rfl ?_
                                                                            refine R_iload_n 3 dL_law_1113 rfl rfl ?_
                                                                            refine R_iconst dL_law_1114 k_iconst_3 ?_
                                                                            refine R_iadd dL_law_1115 ?_
                                                                            obtain ⟨t234, et234, hf⟩ := Option.bind_eq_some_iff.mp hf
                                                                            refine R_iaload et234 dL_law_1116 ?_
                                                                            obtain ⟨u235, eu235, hf⟩ := Option.bind_eq_some_iff.mp hf
                                                                            obtain ⟨q236, eq236, hf⟩ := Option.bind_eq_some_iff.mp hf
                                                                            refine R_callV (mj := mi_X13_suppose) (ci := 11) (q := (RX13, TX13, 24)) (As := [.int t232, .int t233, .int t234]) (rest := [.int q231.1]) (T_X13_suppose eq236) eu235 rfl lV_L_156 ⟨rfl, oky_X13_suppose⟩ (by decide) (by decide) rfl (C1_i C1_0) (Nat.le_of_ble_eq_true rfl) dL_law_1117 ?_
                                                                            refine R_iceq (tgt := 1204) dL_law_1120 (by decide) (fun hc => ?_) (fun hc => ?_)
                                                                            · rw [if_pos hc] at hf
                                                                              refine R_iinc (L' := [(3, .int (x3 + 4)), (0, va_rf x0), (1, va_rf x1), (2, va_rf x2)]) 3 dL_law_1204 rfl (k_inc_4 _) (by decide) rfl ?_
                                                                              refine R_goto (tgt := 18) dL_law_1207 (by decide) ?_
                                                                              refine R.sub [1, 2, 3, 0] (L' := [(0, va_rf x0), (1, va_rf x1), (2, va_rf x2), (3, .int (x3 + 4))]) rfl ?_
                                                                              exact ih x0 x1 x2 (x3 + 4) q236.2 hf
                                                                            · rw [if_neg hc] at hf
                                                                              refine R_iconst dL_law_1123 k_iconst_0 ?_
                                                                              obtain rfl := Option.some.inj hf
                                                                              exact R_iretZ0 rfl dL_law_1124
                                                                          · rw [if_neg hc34] at hf
                                                                            by_cases hc35 : (t2 &&& 63) = 35
                                                                            · rw [if_pos hc35] at hf
                                                                              refine R_tswIn (tgt := 1125) dL_law_32 (by rw [hc35]; decide) (by rw [hc35]; decide) (by rw [hc35]; rfl) (by decide) ?_
                                                                              refine R_aload_n 1 dL_law_1125 rfl rfl ?_
                                                                              refine R_aload_n 0 dL_law_1126 rfl rfl ?_
                                                                              refine R_iload_n 3 dL_law_1127 rfl rfl ?_
                                                                              refine R_iconst dL_law_1128 k_iconst_1 ?_
                                                                              refine R_iadd dL_law_1129 ?_
                                                                              obtain ⟨t237, et237, hf⟩ := Option.bind_eq_some_iff.mp hf
                                                                              refine R_iaload et237 dL_law_1130 ?_
                                                                              refine R_aload_n 0 dL_law_1131 rfl rfl ?_
                                                                              refine R_iload_n 3 dL_law_1132 rfl rfl ?_
                                                                              refine R_iconst dL_law_1133 k_iconst_2 ?_
                                                                              refine R_iadd dL_law_1134 ?_
                                                                              obtain ⟨t238, et238, hf⟩ := Option.bind_eq_some_iff.mp hf
                                                                              refine R_iaload et238 dL_law_1135 ?_
                                                                              obtain ⟨u239, eu239, hf⟩ := Option.bind_eq_some_iff.mp hf
                                                                              obtain ⟨q240, eq240, hf⟩ := Option.bind_eq_some_iff.mp hf
                                                                              refine R_callV (mj := mi_X0_needed) (ci := 0) (q := (RX0, TX0, 4)) (As := [.int t237, .int t238]) (rest := []) (T_X0_needed eq240) eu239 rfl lV_L_157 ⟨rfl, oky_X0_needed⟩ (by decide) (by decide) rfl C1_0 (Nat.le_of_ble_eq_true rfl) dL_law_1136 ?_
                                                                              refine R_aload_n 2 dL_law_1139 rfl rfl ?_
                                                                              refine R_aload_n 0 dL_law_1140 rfl rfl ?_
                                                                              refine R_iload_n 3 dL_law_1141 rfl rfl ?_
                                                                              refine R_iconst dL_law_1142 k_iconst_1 ?_
                                                                              refine R_iadd dL_law_1143 ?_
                                                                              obtain ⟨t241, et241, hf⟩ := Option.bind_eq_some_iff.mp hf
                                                                              refine R_iaload et241 dL_law_1144 ?_
                                                                              refine R_aload_n 0 dL_law_1145 rfl rfl ?_
                                                                              refine R_iload_n 3 dL_law_1146 rfl rfl ?_
                                                                              refine R_iconst dL_law_1147 k_iconst_2 ?_
                                                                              refine R_iadd dL_law_1148 ?_
                                                                              obtain ⟨t242, et242, hf⟩ := Option.bind_eq_some_iff.mp hf
                                                                              refine R_iaload et242 dL_law_1149 ?_
                                                                              obtain ⟨u243, eu243, hf⟩ := Option.bind_eq_some_iff.mp hf
                                                                              obtain ⟨q244, eq244, hf⟩ := Option.bind_eq_some_iff.mp hf
                                                                              refine R_callV (mj := mi_X13_needed) (ci := 11) (q := (RX13, TX13, 24)) (As := [.int t241, .int t242]) (rest := [.int q240.1]) (T_X13_needed eq244) eu243 rfl lV_L_160 ⟨rfl, oky_X13_needed⟩ (by decide) (by decide) rfl (C1_i C1_0) (Nat.le_of_ble_eq_true rfl) dL_law_1150 ?_
                                                                              refine R_iceq (tgt := 1204) dL_law_1153 (by decide) (fun hc => ?_) (fun hc => ?_)
                                                                              · rw [if_pos hc] at hf
                                                                                refine R_iinc (L' := [(3, .int (x3 + 4)), (0, va_rf x0), (1, va_rf x1), (2, va_rf x2)]) 3 dL_law_1204 rfl (k_inc_4 _) (by decide) rfl ?_
                                                                                refine R_goto (tgt := 18) dL_law_1207 (by decide) ?_
                                                                                refine R.sub [1, 2, 3, 0] (L' := [(0, va_rf x0), (1, va_rf x1), (2, va_rf x2), (3, .int (x3 + 4))]) rfl ?_
                                                                                exact ih x0 x1 x2 (x3 + 4) q244.2 hf
                                                                              · rw [if_neg hc] at hf
                                                                                refine R_iconst dL_law_1156 k_iconst_0 ?_
                                                                                obtain rfl := Option.some.inj hf
                                                                                exact R_iretZ0 rfl dL_law_1157
                                                                            · rw [if_neg hc35] at hf
                                                                              by_cases hc36 : (t2 &&& 63) = 36
                                                                              · rw [if_pos hc36] at hf
                                                                                refine R_tswIn (tgt := 1158) dL_law_32 (by rw [hc36]; decide) (by rw [hc36]; decide) (by rw [hc36]; rfl) (by decide) ?_
                                                                                refine R_aload_n 1 dL_law_1158 rfl rfl ?_
                                                                                obtain ⟨u245, eu245, hf⟩ := Option.bind_eq_some_iff.mp hf
                                                                                obtain ⟨q246, eq246, hf⟩ := Option.bind_eq_some_iff.mp hf
                                                                                refine R_callV (mj := mi_X0_enough) (ci := 0) (q := (RX0, TX0, 4)) (As := []) (rest := []) (T_X0_enough eq246) eu245 rfl lV_L_161 ⟨rfl, oky_X0_enough⟩ (by decide) (by decide) rfl C1_0 (Nat.le_of_ble_eq_true rfl) dL_law_1159 ?_
                                                                                refine R_aload_n 2 dL_law_1162 rfl rfl ?_
                                                                                obtain ⟨u247, eu247, hf⟩ := Option.bind_eq_some_iff.mp hf
                                                                                obtain ⟨q248, eq248, hf⟩ := Option.bind_eq_some_iff.mp hf
                                                                                refine R_callV (mj := mi_X13_enough) (ci := 11) (q := (RX13, TX13, 24)) (As := []) (rest := [.int q246.1]) (T_X13_enough eq248) eu247 rfl lV_L_164 ⟨rfl, oky_X13_enough⟩ (by decide) (by decide) rfl (C1_i C1_0) (Nat.le_of_ble_eq_true rfl) dL_law_1163 ?_
                                                                                refine R_iceq (tgt := 1204) dL_law_1166 (by decide) (fun hc => ?_) (fun hc => ?_)
                                                                                · rw [if_pos hc] at hf
                                                                                  refine R_iinc (L' := [(3, .int (x3 + 4)), (0, va_rf x0), (1, va_rf x1), (2, va_rf x2)]) 3 dL_law_1204 rfl (k_inc_4 _) (by decide) rfl ?_
                                                                                  refine R_goto (tgt := 18) dL_law_1207 (by decide) ?_
                                                                                  refine R.sub [1, 2, 3, 0] (L' := [(0, va_rf x0), (1, va_rf x1), (2, va_rf x2), (3, .int (x3 + 4))]) rfl ?_
                                                                                  exact ih x0 x1 x2 (x3 + 4) q248.2 hf
                                                                                · rw [if_neg hc] at hf
                                                                                  refine R_iconst dL_law_1169 k_iconst_0 ?_
                                                                                  obtain rfl := Option.some.inj hf
                                                                                  exact R_iretZ0 rfl dL_law_1170
                                                                              · rw [if_neg hc36] at hf
                                                                                by_cases hc37 : (t2 &&& 63) = 37
                                                                                · rw [if_pos hc37] at hf
                                                                                  refine R_tswIn (tgt := 1171) dL_law_32 (by rw [hc37]; decide) (by rw [hc37]; decide) (by rw [hc37]; rfl) (by decide) ?_
                                                                                  refine R_aload_n 1 dL_law_1171 rfl rfl ?_
                                                                                  refine R_aload_n 0 dL_law_1172 rfl rfl ?_
                                                                                  refine R_iload_n 3 dL_law_1173 rfl rfl ?_
                                                                                  refine R_iconst dL_law_1174 k_iconst_1 ?_
                                                                                  refine R_iadd dL_law_1175 ?_
                                                                                  obtain ⟨t249, et249, hf⟩ := Option.bind_eq_some_iff.mp hf
                                                                                  refine R_iaload et249 dL_law_1176 ?_
                                                                                  refine R_aload_n 0 dL_law_1177 rfl rfl ?_
                                                                                  refine R_iload_n 3 dL_law_1178 rfl rfl ?_
                                                                                  refine R_iconst dL_law_1179 k_iconst_2 ?_
                                                                                  refine R_iadd dL_law_1180 ?_
                                                                                  obtain ⟨t250, et250, hf⟩ := Option.bind_eq_some_iff.mp hf
                                                                                  refine R_iaload et250 dL_law_1181 ?_
                                                                                  obtain ⟨u251, eu251, hf⟩ := Option.bind_eq_some_iff.mp hf
                                                                                  obtain ⟨q252, eq252, hf⟩ := Option.bind_eq_some_iff.mp hf
                                                                                  refine R_callV (mj := mi_X0_printed) (ci := 0) (q := (RX0, TX0, 4)) (As := [.int t249, .int t250]) (rest := []) (T_X0_printed eq252) eu251 rfl lV_L_165 ⟨rfl, oky_X0_printed⟩ (by decide) (by decide) rfl C1_0 (Nat.le_of_ble_eq_true rfl) dL_law_1182 ?_
                                                                                  refine R_aload_n 2 dL_law_1185 rfl rfl ?_
                                                                                  refine R_aload_n 0 dL_law_1186 rfl rfl ?_
                                                                                  refine R_iload_n 3 dL_law_1187 rfl rfl ?_
                                                                                  refine R_iconst dL_law_1188 k_iconst_1 ?_
                                                                                  refine R_iadd dL_law_1189 ?_
                                                                                  obtain ⟨t253, et253, hf⟩ := Option.bind_eq_some_iff.mp hf
                                                                                  refine R_iaload et253 dL_law_1190 ?_
                                                                                  refine R_aload_n 0 dL_law_1191 rfl rfl ?_
                                                                                  refine R_iload_n 3 dL_law_1192 rfl rfl ?_
                                                                                  refine R_iconst dL_law_1193 k_iconst_2 ?_
                                                                                  refine R_iadd dL_law_1194 ?_
                                                                                  obtain ⟨t254, et254, hf⟩ := Option.bind_eq_some_iff.mp hf
                                                                                  refine R_iaload et254 dL_law_1195 ?_
                                                                                  obtain ⟨u255, eu255, hf⟩ := Option.bind_eq_some_iff.mp hf
                                                                                  obtain ⟨q256, eq256, hf⟩ := Option.bind_eq_some_iff.mp hf
                                                                                  refine R_callV (mj := mi_X13_printed) (ci := 11) (q := (RX13, TX13, 24)) (As := [.int t253, .int t254]) (rest := [.int q252.1]) (T_X13_printed eq256) eu255 rfl lV_L_168 ⟨rfl, oky_X13_printed⟩ (by decide) (by decide) rfl (C1_i C1_0) (Nat.le_of_ble_eq_true rfl) dL_law_1196 ?_
                                                                                  refine R_iceq (tgt := 1204) dL_law_1199 (by decide) (fun hc => ?_) (fun hc => ?_)
                                                                                  · rw [if_pos hc] at hf
                                                                                    refine R_iinc (L' := [(3, .int (x3 + 4)), (0, va_rf x0), (1, va_rf x1), (2, va_rf x2)]) 3 dL_law_1204 rfl (k_inc_4 _) (by decide) rfl ?_
                                                                                    refine R_goto (tgt := 18) dL_law_1207 (by decide) ?_
                                                                                    refine R.sub [1, 2, 3, 0] (L' := [(0, va_rf x0), (1, va_rf x1), (2, va_rf x2), (3, .int (x3 + 4))]) rfl ?_
                                                                                    exact ih x0 x1 x2 (x3 + 4) q256.2 hf
                                                                                  · rw [if_neg hc] at hf
                                                                                    refine R_iconst dL_law_1202 k_iconst_0 ?_
                                                                                    obtain rfl := Option.some.inj hf
                                                                                    exact R_iretZ0 rfl dL_law_1203
                                                                                · rw [if_neg hc37] at hf
                                                                                  refine R_tswOut (tgt := 1204) dL_law_32 (by have := (⟨i32_ne hc0, i32_ne hc1, i32_ne hc2, i32_ne hc3, i32_ne hc4, i32_ne hc5, i32_ne hc6, i32_ne hc7, i32_ne hc8, i32_ne hc9, i32_ne hc10, i32_ne hc11, i32_ne hc12, i32_ne hc13, i32_ne hc14, i32_ne hc15, i32_ne hc16, i32_ne hc17, i32_ne hc18, i32_ne hc19, i32_ne hc20, i32_ne hc21, i32_ne hc22, i32_ne hc23, i32_ne hc24, i32_ne hc25, i32_ne hc26, i32_ne hc27, i32_ne hc28, i32_ne hc29, i32_ne hc30, i32_ne hc31, i32_ne hc32, i32_ne hc33, i32_ne hc34, i32_ne hc35, i32_ne hc36, i32_ne hc37, trivial⟩ : (t2 &&& 63).toInt ≠ 0 ∧ (t2 &&& 63).toInt ≠ 1 ∧ (t2 &&& 63).toInt ≠ 2 ∧ (t2 &&& 63).toInt ≠ 3 ∧ (t2 &&& 63).toInt ≠ 4 ∧ (t2 &&& 63).toInt ≠ 5 ∧ (t2 &&& 63).toInt ≠ 6 ∧ (t2 &&& 63).toInt ≠ 7 ∧ (t2 &&& 63).toInt ≠ 8 ∧ (t2 &&& 63).toInt ≠ 9 ∧ (t2 &&& 63).toInt ≠ 10 ∧ (t2 &&& 63).toInt ≠ 11 ∧ (t2 &&& 63).toInt ≠ 12 ∧ (t2 &&& 63).toInt ≠ 13 ∧ (t2 &&& 63).toInt ≠ 14 ∧ (t2 &&& 63).toInt ≠ 15 ∧ (t2 &&& 63).toInt ≠ 16 ∧ (t2 &&& 63).toInt ≠ 17 ∧ (t2 &&& 63).toInt ≠ 18 ∧ (t2 &&& 63).toInt ≠ 19 ∧ (t2 &&& 63).toInt ≠ 20 ∧ (t2 &&& 63).toInt ≠ 21 ∧ (t2 &&& 63).toInt ≠ 22 ∧ (t2 &&& 63).toInt ≠ 23 ∧ (t2 &&& 63).toInt ≠ 24 ∧ (t2 &&& 63).toInt ≠ 25 ∧ (t2 &&& 63).toInt ≠ 26 ∧ (t2 &&& 63).toInt ≠ 27 ∧ (t2 &&& 63).toInt ≠ 28 ∧ (t2 &&& 63).toInt ≠ 29 ∧ (t2 &&& 63).toInt ≠ 30 ∧ (t2 &&& 63).toInt ≠ 31 ∧ (t2 &&& 63).toInt ≠ 32 ∧ (t2 &&& 63).toInt ≠ 33 ∧ (t2 &&& 63).toInt ≠ 34 ∧ (t2 &&& 63).toInt ≠ 35 ∧ (t2 &&& 63).toInt ≠ 36 ∧ (t2 &&& 63).toInt ≠ 37 ∧ True); omega) (by decide) ?_
                                                                                  refine R_iinc (L' := [(3, .int (x3 + 4)), (0, va_rf x0), (1, va_rf x1), (2, va_rf x2)]) 3 dL_law_1204 rfl (k_inc_4 _) (by decide) rfl ?_
                                                                                  refine R_goto (tgt := 18) dL_law_1207 (by decide) ?_
                                                                                  refine R.sub [1, 2, 3, 0] (L' := [(0, va_rf x0), (1, va_rf x1), (2, va_rf x2), (3, .int (x3 + 4))]) rfl ?_
                                                                                  exact ih x0 x1 x2 (x3 + 4) h hf
noncomputable def f_L_law (x0 : Option Nat) (h : PH) : Option (Int32 × PH) := (nwO 0 4 [.null, .null, .null, .null] h).bind (fun q1 => (nn q1.1).bind (fun u2 => (f_X0_init q1.1 q1.2).bind (fun h3 => (nwO 11 24 [.int 0, .null, .null, .null, .int 0, .null, .int 0, .null, .int 0, .int 0, .int 0, .int 0, .null, .int 0, .null, .null, .null, .null, .null, .int 0, .int 0, .int 0, .int 0, .int 0] h3).bind (fun q4 => (nn q4.1).bind (fun u5 => (f_X13_init q4.1 q4.2).bind (fun h6 => f_L_law_L18  FU x0 q1.1 q4.1 0 h6))))))
theorem R_L_law {K : KT} {x0 : Option Nat} {h : PH} {q : (Int32 × PH)} (hf : f_L_law x0 h = some q) : R K mi_L_law h [va_rf x0] (.inl (some (.int q.1))) q.2 0 [(0, va_rf x0)] [] h := by
  unfold f_L_law at hf
  obtain ⟨q1, eq1, hf⟩ := Option.bind_eq_some_iff.mp hf
  refine R_newO eq1 ty_0 ck_0 ct_0 q183 q184 q125 (by decide +kernel) dL_law_0 ?_
  refine R_dup dL_law_3 (rf_cat _) ?_
  obtain ⟨u2, eu2, hf⟩ := Option.bind_eq_some_iff.mp hf
  obtain ⟨h3, eh3, hf⟩ := Option.bind_eq_some_iff.mp hf
  refine R_callIx (mj := mi_X0_init) (As := []) (rest := [va_rf q1.1]) eu2 (T_X0_init eh3) (lw_meth q187) rfl q125 q185 q186 rfl oky_X0_init (by decide) (by decide) rfl (C1_r C1_0) (Nat.le_of_ble_eq_true rfl) dL_law_4 ?_
  refine R_astore_n (L' := [(1, va_rf q1.1), (0, va_rf x0)]) dL_law_7 rfl (by decide) rfl ?_
  obtain ⟨q4, eq4, hf⟩ := Option.bind_eq_some_iff.mp hf
  refine R_newO eq4 ty_11 ck_11 ct_11 q2609 q2610 q158 (by decide +kernel) dL_law_8 ?_
  refine R_dup dL_law_11 (rf_cat _) ?_
  obtain ⟨u5, eu5, hf⟩ := Option.bind_eq_some_iff.mp hf
  obtain ⟨h6, eh6, hf⟩ := Option.bind_eq_some_iff.mp hf
  refine R_callIx (mj := mi_X13_init) (As := []) (rest := [va_rf q4.1]) eu5 (T_X13_init eh6) (lw_meth q2613) rfl q158 q2611 q2612 rfl oky_X13_init (by decide) (by decide) rfl (C1_r C1_0) (Nat.le_of_ble_eq_true rfl) dL_law_12 ?_
  refine R_astore_n (L' := [(2, va_rf q4.1), (1, va_rf q1.1), (0, va_rf x0)]) dL_law_15 rfl (by decide) rfl ?_
  refine R_iconst dL_law_16 k_iconst_0 ?_
  refine R_istore_n (L' := [(3, .int 0), (2, va_rf q4.1), (1, va_rf q1.1), (0, va_rf x0)]) dL_law_17 rfl (by decide) rfl ?_
  refine R.sub [3, 2, 1, 0] (L' := [(0, va_rf x0), (1, va_rf q1.1), (2, va_rf q4.1), (3, .int 0)]) rfl ?_
  exact f_L_law_L18_ok  FU x0 q1.1 q4.1 0 h6 hf
