set_option maxRecDepth 100000
theorem si_X0_30 : SiV RX0 30 0 yX1_feed cX1_feed 6 (some .int) 5 := ⟨_, _, _, ci_0.1, by decide, lw_V q567 q568 q569 q110 q570, ⟨rfl, by decide, by decide, by decide +kernel⟩, by decide⟩
theorem si_X0_34 : SiV RX0 34 8 yX10_feed cX10_feed 6 (some .int) 5 := ⟨_, _, _, ci_8.1, by decide, lw_V q1668 q1669 q1670 q121 q1671, ⟨rfl, by decide, by decide, by decide +kernel⟩, by decide⟩
theorem si_X0_35 : SiV RX0 35 0 yX1_end cX1_end 2 (some .boolean) 1 := ⟨_, _, _, ci_0.1, by decide, lw_V q575 q576 q577 q110 q578, ⟨rfl, by decide, by decide, by decide +kernel⟩, by decide⟩
theorem si_X0_39 : SiV RX0 39 8 yX10_end cX10_end 2 (some .boolean) 1 := ⟨_, _, _, ci_8.1, by decide, lw_V q1677 q1678 q1679 q121 q1680, ⟨rfl, by decide, by decide, by decide +kernel⟩, by decide⟩
theorem si_X0_40 : SiVX RX0 40 0 yX1_room cX1_room 4 (some .int) [(25, 83, 84, 13)] 0 := ⟨_, _, _, ci_0.1, by decide, lw_VW q579 q580 q581 q110 q582, ⟨rfl, by decide, by decide, by decide +kernel⟩, by decide⟩
theorem si_X0_44 : SiV RX0 44 8 yX10_room cX10_room 3 (some .int) 0 := ⟨_, _, _, ci_8.1, by decide, lw_V q1805 q1806 q1807 q121 q1808, ⟨rfl, by decide, by decide, by decide +kernel⟩, by decide⟩
theorem si_X0_45 : SiV RX0 45 0 yX1_fault cX1_fault 1 (some .int) 0 := ⟨_, _, _, ci_0.1, by decide, lw_V q888 q889 q890 q110 q891, ⟨rfl, by decide, by decide, by decide +kernel⟩, by decide⟩
theorem si_X0_48 : SiV RX0 48 8 yX10_fault cX10_fault 1 (some .int) 0 := ⟨_, _, _, ci_8.1, by decide, lw_V q1917 q1918 q1919 q121 q1920, ⟨rfl, by decide, by decide, by decide +kernel⟩, by decide⟩
theorem si_X0_49 : SiV RX0 49 0 yX1_size cX1_size 2 (some .int) 1 := ⟨_, _, _, ci_0.1, by decide, lw_V q892 q893 q894 q110 q895, ⟨rfl, by decide, by decide, by decide +kernel⟩, by decide⟩
theorem si_X0_52 : SiV RX0 52 8 yX10_size cX10_size 2 (some .int) 1 := ⟨_, _, _, ci_8.1, by decide, lw_V q1921 q1922 q1923 q121 q1924, ⟨rfl, by decide, by decide, by decide +kernel⟩, by decide⟩
theorem si_X0_53 : SiV RX0 53 0 yX1_bit cX1_bit 3 (some .int) 2 := ⟨_, _, _, ci_0.1, by decide, lw_V q902 q903 q904 q110 q905, ⟨rfl, by decide, by decide, by decide +kernel⟩, by decide⟩
theorem si_X0_56 : SiV RX0 56 8 yX10_bit cX10_bit 3 (some .int) 2 := ⟨_, _, _, ci_8.1, by decide, lw_V q1929 q1930 q1931 q121 q1932, ⟨rfl, by decide, by decide, by decide +kernel⟩, by decide⟩
theorem si_X0_57 : SiV RX0 57 0 yX1_rank cX1_rank 4 (some .int) 3 := ⟨_, _, _, ci_0.1, by decide, lw_V q974 q975 q976 q110 q977, ⟨rfl, by decide, by decide, by decide +kernel⟩, by decide⟩
theorem si_X0_60 : SiV RX0 60 8 yX10_rank cX10_rank 5 (some .int) 3 := ⟨_, _, _, ci_8.1, by decide, lw_V q1941 q1942 q1943 q121 q1944, ⟨rfl, by decide, by decide, by decide +kernel⟩, by decide⟩
theorem si_X0_61 : SiV RX0 61 0 yX1_select cX1_select 4 (some .int) 3 := ⟨_, _, _, ci_0.1, by decide, lw_V q979 q980 q981 q110 q982, ⟨rfl, by decide, by decide, by decide +kernel⟩, by decide⟩
theorem si_X0_64 : SiV RX0 64 8 yX10_select cX10_select 6 (some .int) 3 := ⟨_, _, _, ci_8.1, by decide, lw_V q1953 q1954 q1955 q121 q1956, ⟨rfl, by decide, by decide, by decide +kernel⟩, by decide⟩
theorem si_X0_65 : SiV RX0 65 0 yX1_find cX1_find 5 (some .int) 3 := ⟨_, _, _, ci_0.1, by decide, lw_V q996 q997 q998 q110 q999, ⟨rfl, by decide, by decide, by decide +kernel⟩, by decide⟩
theorem si_X0_68 : SiV RX0 68 8 yX10_find cX10_find 5 (some .int) 3 := ⟨_, _, _, ci_8.1, by decide, lw_V q1957 q1958 q1959 q121 q1960, ⟨rfl, by decide, by decide, by decide +kernel⟩, by decide⟩
theorem si_X0_69 : SiV RX0 69 0 yX1_runs cX1_runs 2 (some .int) 1 := ⟨_, _, _, ci_0.1, by decide, lw_V q1000 q1001 q1002 q110 q1003, ⟨rfl, by decide, by decide, by decide +kernel⟩, by decide⟩
theorem si_X0_72 : SiV RX0 72 8 yX10_runs cX10_runs 2 (some .int) 1 := ⟨_, _, _, ci_8.1, by decide, lw_V q1961 q1962 q1963 q121 q1964, ⟨rfl, by decide, by decide, by decide +kernel⟩, by decide⟩
theorem si_X0_73 : SiV RX0 73 0 yX1_longest cX1_longest 6 (some .int) 2 := ⟨_, _, _, ci_0.1, by decide, lw_V q1008 q1009 q1010 q110 q1011, ⟨rfl, by decide, by decide, by decide +kernel⟩, by decide⟩
theorem si_X0_76 : SiV RX0 76 8 yX10_longest cX10_longest 6 (some .int) 2 := ⟨_, _, _, ci_8.1, by decide, lw_V q1969 q1970 q1971 q121 q1972, ⟨rfl, by decide, by decide, by decide +kernel⟩, by decide⟩
theorem si_X0_77 : SiSX RX0 77 yX0_word cX0_word 5 (some .int) [(0, 10, 13, 13)] 4 := ⟨lw_SW q1589 q1590 q109 q1591, ⟨by decide, by decide, by decide +kernel⟩, by decide⟩
theorem si_X0_82 : SiV RX0 82 8 yX10_word cX10_word 5 (some .int) 2 := ⟨_, _, _, ci_8.1, by decide, lw_V q1973 q1974 q1975 q121 q1976, ⟨rfl, by decide, by decide, by decide +kernel⟩, by decide⟩
theorem si_X0_83 : SiV RX0 83 8 yX10_thrown cX10_thrown 1 (some .int) 0 := ⟨_, _, _, ci_8.1, by decide, lw_V q1664 q1665 q1666 q121 q1667, ⟨rfl, by decide, by decide, by decide +kernel⟩, by decide⟩
theorem si_X0_86 : SiV RX0 86 0 yX1_leaves cX1_leaves 2 (some .int) 1 := ⟨_, _, _, ci_0.1, by decide, lw_V q1015 q1016 q1017 q110 q1018, ⟨rfl, by decide, by decide, by decide +kernel⟩, by decide⟩
theorem si_X0_89 : SiV RX0 89 8 yX10_leaves cX10_leaves 2 (some .int) 1 := ⟨_, _, _, ci_8.1, by decide, lw_V q1981 q1982 q1983 q121 q1984, ⟨rfl, by decide, by decide, by decide +kernel⟩, by decide⟩
theorem si_X0_90 : SiV RX0 90 0 yX1_leaf cX1_leaf 7 (some .int) 3 := ⟨_, _, _, ci_0.1, by decide, lw_V q1023 q1024 q1025 q110 q1026, ⟨rfl, by decide, by decide, by decide +kernel⟩, by decide⟩
theorem si_X0_93 : SiV RX0 93 8 yX10_leaf cX10_leaf 6 (some .int) 3 := ⟨_, _, _, ci_8.1, by decide, lw_V q1985 q1986 q1987 q121 q1988, ⟨rfl, by decide, by decide, by decide +kernel⟩, by decide⟩
theorem si_X0_94 : SiV RX0 94 0 yX1_tree cX1_tree 4 (some .int) 2 := ⟨_, _, _, ci_0.1, by decide, lw_V q1031 q1032 q1033 q110 q1034, ⟨rfl, by decide, by decide, by decide +kernel⟩, by decide⟩
theorem si_X0_97 : SiV RX0 97 8 yX10_tree cX10_tree 4 (some .int) 2 := ⟨_, _, _, ci_8.1, by decide, lw_V q1989 q1990 q1991 q121 q1992, ⟨rfl, by decide, by decide, by decide +kernel⟩, by decide⟩
theorem si_X0_98 : SiSX RX0 98 yX0_dense cX0_dense 6 (some .int) [(0, 12, 15, 13)] 5 := ⟨lw_SW q1621 q1622 q109 q1623, ⟨by decide, by decide, by decide +kernel⟩, by decide⟩
theorem si_X0_101 : SiV RX0 101 8 yX10_dense cX10_dense 4 (some .int) 3 := ⟨_, _, _, ci_8.1, by decide, lw_V q2006 q2007 q2008 q121 q2009, ⟨rfl, by decide, by decide, by decide +kernel⟩, by decide⟩
theorem si_X0_102 : SiSX RX0 102 yX0_load cX0_load 4 (some .int) [(0, 9, 12, 13)] 3 := ⟨lw_SW q1639 q1640 q109 q1641, ⟨by decide, by decide, by decide +kernel⟩, by decide⟩
theorem si_X0_105 : SiV RX0 105 8 yX10_load cX10_load 2 (some .int) 1 := ⟨_, _, _, ci_8.1, by decide, lw_V q2020 q2021 q2022 q121 q2023, ⟨rfl, by decide, by decide, by decide +kernel⟩, by decide⟩
theorem si_X0_106 : SiSX RX0 106 yX0_centre cX0_centre 5 (some .int) [(0, 10, 13, 13)] 4 := ⟨lw_SW q1646 q1647 q109 q1648, ⟨by decide, by decide, by decide +kernel⟩, by decide⟩
theorem si_X0_108 : SiV RX0 108 8 yX10_centre cX10_centre 7 (some .int) 2 := ⟨_, _, _, ci_8.1, by decide, lw_V q2024 q2025 q2026 q121 q2027, ⟨rfl, by decide, by decide, by decide +kernel⟩, by decide⟩
theorem si_X0_109 : SiV RX0 109 0 yX1_apart cX1_apart 6 (some .int) 2 := ⟨_, _, _, ci_0.1, by decide, lw_V q1046 q1047 q1048 q110 q1049, ⟨rfl, by decide, by decide, by decide +kernel⟩, by decide⟩
theorem si_X0_112 : SiV RX0 112 8 yX10_apart cX10_apart 5 (some .int) 2 := ⟨_, _, _, ci_8.1, by decide, lw_V q2034 q2035 q2036 q121 q2037, ⟨rfl, by decide, by decide, by decide +kernel⟩, by decide⟩
theorem si_X0_113 : SiV RX0 113 0 yX1_differ cX1_differ 3 (some .int) 2 := ⟨_, _, _, ci_0.1, by decide, lw_V q1053 q1054 q1055 q110 q1056, ⟨rfl, by decide, by decide, by decide +kernel⟩, by decide⟩
theorem si_X0_116 : SiV RX0 116 8 yX10_differ cX10_differ 3 (some .int) 2 := ⟨_, _, _, ci_8.1, by decide, lw_V q2038 q2039 q2040 q121 q2041, ⟨rfl, by decide, by decide, by decide +kernel⟩, by decide⟩
theorem si_X0_117 : SiV RX0 117 0 yX1_seek cX1_seek 4 (some .int) 1 := ⟨_, _, _, ci_0.1, by decide, lw_V q1061 q1062 q1063 q110 q1064, ⟨rfl, by decide, by decide, by decide +kernel⟩, by decide⟩
theorem si_X0_120 : SiV RX0 120 8 yX10_seek cX10_seek 4 (some .int) 1 := ⟨_, _, _, ci_8.1, by decide, lw_V q2050 q2051 q2052 q121 q2053, ⟨rfl, by decide, by decide, by decide +kernel⟩, by decide⟩
theorem si_X0_121 : SiV RX0 121 0 yX1_seekAt cX1_seekAt 2 (some .int) 1 := ⟨_, _, _, ci_0.1, by decide, lw_V q1073 q1074 q1075 q110 q1076, ⟨rfl, by decide, by decide, by decide +kernel⟩, by decide⟩
theorem si_X0_124 : SiV RX0 124 8 yX10_seekAt cX10_seekAt 2 (some .int) 1 := ⟨_, _, _, ci_8.1, by decide, lw_V q2062 q2063 q2064 q121 q2065, ⟨rfl, by decide, by decide, by decide +kernel⟩, by decide⟩
theorem si_X0_125 : SiV RX0 125 0 yX1_put cX1_put 4 (some .int) 3 := ⟨_, _, _, ci_0.1, by decide, lw_V q1090 q1091 q1092 q110 q1093, ⟨rfl, by decide, by decide, by decide +kernel⟩, by decide⟩
theorem si_X0_128 : SiV RX0 128 8 yX10_put cX10_put 4 (some .int) 3 := ⟨_, _, _, ci_8.1, by decide, lw_V q2097 q2098 q2099 q121 q2100, ⟨rfl, by decide, by decide, by decide +kernel⟩, by decide⟩
theorem si_X0_129 : SiV RX0 129 0 yX1_set cX1_set 4 (some .int) 3 := ⟨_, _, _, ci_0.1, by decide, lw_V q1190 q1191 q1192 q110 q1193, ⟨rfl, by decide, by decide, by decide +kernel⟩, by decide⟩
theorem si_X0_132 : SiV RX0 132 8 yX10_set cX10_set 4 (some .int) 3 := ⟨_, _, _, ci_8.1, by decide, lw_V q2140 q2141 q2142 q121 q2143, ⟨rfl, by decide, by decide, by decide +kernel⟩, by decide⟩
theorem si_X0_133 : SiV RX0 133 0 yX1_cut cX1_cut 4 (some .int) 3 := ⟨_, _, _, ci_0.1, by decide, lw_V q1194 q1195 q1196 q110 q1197, ⟨rfl, by decide, by decide, by decide +kernel⟩, by decide⟩
theorem si_X0_136 : SiV RX0 136 8 yX10_cut cX10_cut 4 (some .int) 3 := ⟨_, _, _, ci_8.1, by decide, lw_V q2144 q2145 q2146 q121 q2147, ⟨rfl, by decide, by decide, by decide +kernel⟩, by decide⟩
theorem si_X0_137 : SiV RX0 137 0 yX1_turn cX1_turn 4 (some .int) 3 := ⟨_, _, _, ci_0.1, by decide, lw_V q1202 q1203 q1204 q110 q1205, ⟨rfl, by decide, by decide, by decide +kernel⟩, by decide⟩
theorem si_X0_140 : SiV RX0 140 8 yX10_turn cX10_turn 4 (some .int) 3 := ⟨_, _, _, ci_8.1, by decide, lw_V q2148 q2149 q2150 q121 q2151, ⟨rfl, by decide, by decide, by decide +kernel⟩, by decide⟩
theorem si_X0_141 : SiV RX0 141 0 yX1_paste cX1_paste 5 (some .int) 2 := ⟨_, _, _, ci_0.1, by decide, lw_V q1226 q1227 q1228 q110 q1229, ⟨rfl, by decide, by decide, by decide +kernel⟩, by decide⟩
theorem si_X0_144 : SiV RX0 144 8 yX10_paste cX10_paste 6 (some .int) 2 := ⟨_, _, _, ci_8.1, by decide, lw_V q2152 q2153 q2154 q121 q2155, ⟨rfl, by decide, by decide, by decide +kernel⟩, by decide⟩
theorem si_X0_145 : SiV RX0 145 0 yX1_join cX1_join 3 (some .int) 2 := ⟨_, _, _, ci_0.1, by decide, lw_V q1206 q1207 q1208 q110 q1209, ⟨rfl, by decide, by decide, by decide +kernel⟩, by decide⟩
theorem si_X0_148 : SiV RX0 148 8 yX10_join cX10_join 3 (some .int) 2 := ⟨_, _, _, ci_8.1, by decide, lw_V q2156 q2157 q2158 q121 q2159, ⟨rfl, by decide, by decide, by decide +kernel⟩, by decide⟩
theorem si_X0_149 : SiV RX0 149 0 yX1_split cX1_split 4 (some .int) 3 := ⟨_, _, _, ci_0.1, by decide, lw_V q1214 q1215 q1216 q110 q1217, ⟨rfl, by decide, by decide, by decide +kernel⟩, by decide⟩
theorem si_X0_152 : SiV RX0 152 8 yX10_split cX10_split 4 (some .int) 3 := ⟨_, _, _, ci_8.1, by decide, lw_V q2164 q2165 q2166 q121 q2167, ⟨rfl, by decide, by decide, by decide +kernel⟩, by decide⟩
theorem si_X0_153 : SiV RX0 153 0 yX1_letters cX1_letters 1 (some .int) 0 := ⟨_, _, _, ci_0.1, by decide, lw_V q1231 q1232 q1233 q110 q1234, ⟨rfl, by decide, by decide, by decide +kernel⟩, by decide⟩
theorem si_X0_156 : SiV RX0 156 8 yX10_letters cX10_letters 1 (some .int) 0 := ⟨_, _, _, ci_8.1, by decide, lw_V q2066 q2067 q2068 q121 q2069, ⟨rfl, by decide, by decide, by decide +kernel⟩, by decide⟩
theorem si_X0_157 : SiV RX0 157 0 yX1_letter cX1_letter 2 (some .int) 1 := ⟨_, _, _, ci_0.1, by decide, lw_V q1236 q1237 q1238 q110 q1239, ⟨rfl, by decide, by decide, by decide +kernel⟩, by decide⟩
theorem si_X0_160 : SiV RX0 160 8 yX10_letter cX10_letter 2 (some .int) 1 := ⟨_, _, _, ci_8.1, by decide, lw_V q2070 q2071 q2072 q121 q2073, ⟨rfl, by decide, by decide, by decide +kernel⟩, by decide⟩
theorem si_X0_161 : SiV RX0 161 0 yX1_count cX1_count 3 (some .int) 2 := ⟨_, _, _, ci_0.1, by decide, lw_V q1244 q1245 q1246 q110 q1247, ⟨rfl, by decide, by decide, by decide +kernel⟩, by decide⟩
theorem si_X0_164 : SiV RX0 164 8 yX10_count cX10_count 5 (some .int) 2 := ⟨_, _, _, ci_8.1, by decide, lw_V q2078 q2079 q2080 q121 q2081, ⟨rfl, by decide, by decide, by decide +kernel⟩, by decide⟩
theorem si_X0_165 : SiV RX0 165 0 yX1_place cX1_place 3 (some .int) 2 := ⟨_, _, _, ci_0.1, by decide, lw_V q1255 q1256 q1257 q110 q1258, ⟨rfl, by decide, by decide, by decide +kernel⟩, by decide⟩
theorem si_X0_168 : SiV RX0 168 8 yX10_place cX10_place 5 (some .int) 2 := ⟨_, _, _, ci_8.1, by decide, lw_V q2082 q2083 q2084 q121 q2085, ⟨rfl, by decide, by decide, by decide +kernel⟩, by decide⟩
theorem si_X0_169 : SiV RX0 169 0 yX1_least cX1_least 4 (some .int) 3 := ⟨_, _, _, ci_0.1, by decide, lw_V q1266 q1267 q1268 q110 q1269, ⟨rfl, by decide, by decide, by decide +kernel⟩, by decide⟩
theorem si_X0_172 : SiV RX0 172 8 yX10_least cX10_least 7 (some .int) 3 := ⟨_, _, _, ci_8.1, by decide, lw_V q2086 q2087 q2088 q121 q2089, ⟨rfl, by decide, by decide, by decide +kernel⟩, by decide⟩
theorem si_X0_173 : SiV RX0 173 0 yX1_node cX1_node 3 (some .int) 2 := ⟨_, _, _, ci_0.1, by decide, lw_V q1274 q1275 q1276 q110 q1277, ⟨rfl, by decide, by decide, by decide +kernel⟩, by decide⟩
theorem si_X0_176 : SiV RX0 176 8 yX10_node cX10_node 6 (some .int) 2 := ⟨_, _, _, ci_8.1, by decide, lw_V q2090 q2091 q2092 q121 q2093, ⟨rfl, by decide, by decide, by decide +kernel⟩, by decide⟩
theorem si_X0_177 : SiV RX0 177 0 yX1_type cX1_type 3 (some .int) 2 := ⟨_, _, _, ci_0.1, by decide, lw_V q1218 q1219 q1220 q110 q1221, ⟨rfl, by decide, by decide, by decide +kernel⟩, by decide⟩
theorem si_X0_180 : SiV RX0 180 8 yX10_type cX10_type 3 (some .int) 2 := ⟨_, _, _, ci_8.1, by decide, lw_V q2168 q2169 q2170 q121 q2171, ⟨rfl, by decide, by decide, by decide +kernel⟩, by decide⟩
theorem si_X0_181 : SiV RX0 181 0 yX1_erase cX1_erase 3 (some .int) 2 := ⟨_, _, _, ci_0.1, by decide, lw_V q1222 q1223 q1224 q110 q1225, ⟨rfl, by decide, by decide, by decide +kernel⟩, by decide⟩
theorem si_X0_184 : SiV RX0 184 8 yX10_erase cX10_erase 3 (some .int) 2 := ⟨_, _, _, ci_8.1, by decide, lw_V q2172 q2173 q2174 q121 q2175, ⟨rfl, by decide, by decide, by decide +kernel⟩, by decide⟩
theorem si_X0_185 : SiV RX0 185 0 yX1_undo cX1_undo 1 (some .int) 0 := ⟨_, _, _, ci_0.1, by decide, lw_V q1077 q1078 q1079 q110 q1080, ⟨rfl, by decide, by decide, by decide +kernel⟩, by decide⟩
theorem si_X0_188 : SiV RX0 188 8 yX10_undo cX10_undo 1 (some .int) 0 := ⟨_, _, _, ci_8.1, by decide, lw_V q2176 q2177 q2178 q121 q2179, ⟨rfl, by decide, by decide, by decide +kernel⟩, by decide⟩
theorem si_X0_189 : SiV RX0 189 0 yX1_drawn cX1_drawn 5 (some .int) 2 := ⟨_, _, _, ci_0.1, by decide, lw_V q1278 q1279 q1280 q110 q1281, ⟨rfl, by decide, by decide, by decide +kernel⟩, by decide⟩
theorem si_X0_192 : SiV RX0 192 8 yX10_drawn cX10_drawn 5 (some .int) 2 := ⟨_, _, _, ci_8.1, by decide, lw_V q2184 q2185 q2186 q121 q2187, ⟨rfl, by decide, by decide, by decide +kernel⟩, by decide⟩
theorem si_X0_193 : SiVX RX0 193 0 yX1_book cX1_book 8 (some .int) [(22, 29, 32, 13)] 1 := ⟨_, _, _, ci_0.1, by decide, lw_VW q1297 q1298 q1299 q110 q1300, ⟨rfl, by decide, by decide, by decide +kernel⟩, by decide⟩
theorem si_X0_196 : SiV RX0 196 8 yX10_book cX10_book 4 (some .int) 1 := ⟨_, _, _, ci_8.1, by decide, lw_V q2205 q2206 q2207 q121 q2208, ⟨rfl, by decide, by decide, by decide +kernel⟩, by decide⟩
theorem si_X0_197 : SiV RX0 197 0 yX1_told cX1_told 2 (some .int) 1 := ⟨_, _, _, ci_0.1, by decide, lw_V q1372 q1373 q1374 q110 q1375, ⟨rfl, by decide, by decide, by decide +kernel⟩, by decide⟩
theorem si_X0_200 : SiV RX0 200 8 yX10_told cX10_told 2 (some .int) 1 := ⟨_, _, _, ci_8.1, by decide, lw_V q2233 q2234 q2235 q121 q2236, ⟨rfl, by decide, by decide, by decide +kernel⟩, by decide⟩
theorem si_X0_201 : SiVX RX0 201 0 yX1_sentence cX1_sentence 2 (some .int) [(9, 27, 28, 13)] 0 := ⟨_, _, _, ci_0.1, by decide, lw_VW q1376 q1377 q1378 q110 q1379, ⟨rfl, by decide, by decide, by decide +kernel⟩, by decide⟩
theorem si_X0_204 : SiV RX0 204 8 yX10_sentence cX10_sentence 2 (some .int) 0 := ⟨_, _, _, ci_8.1, by decide, lw_V q2237 q2238 q2239 q121 q2240, ⟨rfl, by decide, by decide, by decide +kernel⟩, by decide⟩
theorem si_X0_205 : SiV RX0 205 0 yX1_said cX1_said 4 (some .int) 1 := ⟨_, _, _, ci_0.1, by decide, lw_V q1490 q1491 q1492 q110 q1493, ⟨rfl, by decide, by decide, by decide +kernel⟩, by decide⟩
theorem si_X0_208 : SiV RX0 208 8 yX10_said cX10_said 4 (some .int) 1 := ⟨_, _, _, ci_8.1, by decide, lw_V q2273 q2274 q2275 q121 q2276, ⟨rfl, by decide, by decide, by decide +kernel⟩, by decide⟩
theorem si_X0_209 : SiV RX0 209 0 yX1_image cX1_image 3 (some .boolean) 1 := ⟨_, _, _, ci_0.1, by decide, lw_V q1543 q1544 q1545 q110 q1546, ⟨rfl, by decide, by decide, by decide +kernel⟩, by decide⟩
theorem si_X0_212 : SiV RX0 212 8 yX10_image cX10_image 3 (some .boolean) 1 := ⟨_, _, _, ci_8.1, by decide, lw_V q2289 q2290 q2291 q121 q2292, ⟨rfl, by decide, by decide, by decide +kernel⟩, by decide⟩
theorem si_X0_213 : SiV RX0 213 0 yX1_restore cX1_restore 5 (some .boolean) 1 := ⟨_, _, _, ci_0.1, by decide, lw_V q1562 q1563 q1564 q110 q1565, ⟨rfl, by decide, by decide, by decide +kernel⟩, by decide⟩
theorem si_X0_216 : SiV RX0 216 8 yX10_restore cX10_restore 3 (some .boolean) 1 := ⟨_, _, _, ci_8.1, by decide, lw_V q2293 q2294 q2295 q121 q2296, ⟨rfl, by decide, by decide, by decide +kernel⟩, by decide⟩
theorem si_X0_217 : SiV RX0 217 0 yX1_total cX1_total 2 (some .int) 1 := ⟨_, _, _, ci_0.1, by decide, lw_V q1585 q1586 q1587 q110 q1588, ⟨rfl, by decide, by decide, by decide +kernel⟩, by decide⟩
theorem si_X0_220 : SiV RX0 220 8 yX10_total cX10_total 2 (some .int) 1 := ⟨_, _, _, ci_8.1, by decide, lw_V q2297 q2298 q2299 q121 q2300, ⟨rfl, by decide, by decide, by decide +kernel⟩, by decide⟩
theorem ni_X0_8 : NI RX0 8 0 [.null, .int 0, .int 0, .null, .null, .null, .null, .null, .null, .null, .null, .int 0, .null, .int 0, .null, .int 0, .null, .int 0, .null, .null, .null] := ⟨_, _, _, _, ci_0, q145, q146, q110, by decide +kernel, rfl⟩
theorem si_X0_26 : SiI RX0 26 yX1_init cX1_init 1 0 := ⟨q149, q110, q147, q148, rfl, ⟨by decide, by decide, by decide +kernel⟩, by decide⟩
theorem ni_X0_27 : NI RX0 27 8 [.int 0, .null, .int 0, .int 0, .int 0, .int 0, .int 0, .int 0, .int 0, .int 0, .int 0, .int 0, .long 0, .int 0, .null, .null, .null, .null, .null, .null, .null, .null, .null, .null, .int 0, .int 0, .int 0, .null, .int 0, .int 0, .null, .null, .int 0, .int 0, .null, .int 0, .int 0, .int 0, .int 0] := ⟨_, _, _, _, ci_8, q1681, q1675, q121, by decide +kernel, rfl⟩
theorem si_X0_29 : SiI RX0 29 yX10_init cX10_init 1 0 := ⟨q1684, q121, q1682, q1683, rfl, ⟨by decide, by decide, by decide +kernel⟩, by decide⟩
abbrev Y_W_law : Yx := (RX0, cL_law, 7, 182, (some .boolean), [], false)
def c_W_law_l23 (r23 : PH → Nat → Nat → Nat → Nat → Int32 → Option RH) (h : PH) (x0 : Nat) (x1 : Nat) (x2 : Nat) (x3 : Nat) (x4 : Int32) : Option RH :=
  lenS h x0 fun v1 =>
  if (v1 - (6 : Int32)) < x4 then
    rZ (1 : Int32) h
  else
    ldS h x0 x4 fun v2 =>
    if (v2 &&& (63 : Int32)) = 0 then
      ldS h x0 (x4 + (1 : Int32)) fun v3 =>
      ldS h x0 (x4 + (2 : Int32)) fun v4 =>
      ldS h x0 (x4 + (3 : Int32)) fun v5 =>
      ldS h x0 (x4 + (4 : Int32)) fun v6 =>
      ldS h x0 (x4 + (5 : Int32)) fun v7 =>
      hI (c_B_feed h x1 v3 v4 v5 v6 v7) noX fun v9 h8 =>
      ldS h8 x0 (x4 + (1 : Int32)) fun v10 =>
      ldS h8 x0 (x4 + (2 : Int32)) fun v11 =>
      ldS h8 x0 (x4 + (3 : Int32)) fun v12 =>
      ldS h8 x0 (x4 + (4 : Int32)) fun v13 =>
      ldS h8 x0 (x4 + (5 : Int32)) fun v14 =>
      hI (c_M_feed h8 x2 v10 v11 v12 v13 v14) noX fun v16 h15 =>
      if v9 = v16 then
        r23 h15 x0 x1 x2 x3 (x4 + (6 : Int32))
      else
        rZ (0 : Int32) h15
    else
    if (v2 &&& (63 : Int32)) = 1 then
      ldS h x0 (x4 + (1 : Int32)) fun v17 =>
      hI (c_B_end h x1 v17) noX fun v19 h18 =>
      ldS h18 x0 (x4 + (1 : Int32)) fun v20 =>
      hI (c_M_end h18 x2 v20) noX fun v22 h21 =>
      if v19 = v22 then
        r23 h21 x0 x1 x2 x3 (x4 + (6 : Int32))
      else
        rZ (0 : Int32) h21
    else
    if (v2 &&& (63 : Int32)) = 2 then
      hI (c_B_room h x1) noX fun v24 h23 =>
      hI (c_M_room h23 x2) noX fun v26 h25 =>
      if v24 = v26 then
        r23 h25 x0 x1 x2 x3 (x4 + (6 : Int32))
      else
        rZ (0 : Int32) h25
    else
    if (v2 &&& (63 : Int32)) = 3 then
      hI (c_B_fault h x1) noX fun v28 h27 =>
      hI (c_M_fault h27 x2) noX fun v30 h29 =>
      if v28 = v30 then
        r23 h29 x0 x1 x2 x3 (x4 + (6 : Int32))
      else
        rZ (0 : Int32) h29
    else
    if (v2 &&& (63 : Int32)) = 4 then
      ldS h x0 (x4 + (1 : Int32)) fun v31 =>
      hI (c_B_size h x1 v31) noX fun v33 h32 =>
      ldS h32 x0 (x4 + (1 : Int32)) fun v34 =>
      hI (c_M_size h32 x2 v34) noX fun v36 h35 =>
      if v33 = v36 then
        r23 h35 x0 x1 x2 x3 (x4 + (6 : Int32))
      else
        rZ (0 : Int32) h35
    else
    if (v2 &&& (63 : Int32)) = 5 then
      ldS h x0 (x4 + (1 : Int32)) fun v37 =>
      ldS h x0 (x4 + (2 : Int32)) fun v38 =>
      hI (c_B_bit h x1 v37 v38) noX fun v40 h39 =>
      ldS h39 x0 (x4 + (1 : Int32)) fun v41 =>
      ldS h39 x0 (x4 + (2 : Int32)) fun v42 =>
      hI (c_M_bit h39 x2 v41 v42) noX fun v44 h43 =>
      if v40 = v44 then
        r23 h43 x0 x1 x2 x3 (x4 + (6 : Int32))
      else
        rZ (0 : Int32) h43
    else
    if (v2 &&& (63 : Int32)) = 6 then
      ldS h x0 (x4 + (1 : Int32)) fun v45 =>
      ldS h x0 (x4 + (2 : Int32)) fun v46 =>
      ldS h x0 (x4 + (3 : Int32)) fun v47 =>
      hI (c_B_rank h x1 v45 v46 v47) noX fun v49 h48 =>
      ldS h48 x0 (x4 + (1 : Int32)) fun v50 =>
      ldS h48 x0 (x4 + (2 : Int32)) fun v51 =>
      ldS h48 x0 (x4 + (3 : Int32)) fun v52 =>
      hI (c_M_rank h48 x2 v50 v51 v52) noX fun v54 h53 =>
      if v49 = v54 then
        r23 h53 x0 x1 x2 x3 (x4 + (6 : Int32))
      else
        rZ (0 : Int32) h53
    else
    if (v2 &&& (63 : Int32)) = 7 then
      ldS h x0 (x4 + (1 : Int32)) fun v55 =>
      ldS h x0 (x4 + (2 : Int32)) fun v56 =>
      ldS h x0 (x4 + (3 : Int32)) fun v57 =>
      hI (c_B_select h x1 v55 v56 v57) noX fun v59 h58 =>
      ldS h58 x0 (x4 + (1 : Int32)) fun v60 =>
      ldS h58 x0 (x4 + (2 : Int32)) fun v61 =>
      ldS h58 x0 (x4 + (3 : Int32)) fun v62 =>
      hI (c_M_select h58 x2 v60 v61 v62) noX fun v64 h63 =>
      if v59 = v64 then
        r23 h63 x0 x1 x2 x3 (x4 + (6 : Int32))
      else
        rZ (0 : Int32) h63
    else
    if (v2 &&& (63 : Int32)) = 8 then
      ldS h x0 (x4 + (1 : Int32)) fun v65 =>
      ldS h x0 (x4 + (2 : Int32)) fun v66 =>
      ldS h x0 (x4 + (3 : Int32)) fun v67 =>
      hI (c_B_find h x1 v65 v66 v67) noX fun v69 h68 =>
      ldS h68 x0 (x4 + (1 : Int32)) fun v70 =>
      ldS h68 x0 (x4 + (2 : Int32)) fun v71 =>
      ldS h68 x0 (x4 + (3 : Int32)) fun v72 =>
      hI (c_M_find h68 x2 v70 v71 v72) noX fun v74 h73 =>
      if v69 = v74 then
        r23 h73 x0 x1 x2 x3 (x4 + (6 : Int32))
      else
        rZ (0 : Int32) h73
    else
    if (v2 &&& (63 : Int32)) = 9 then
      ldS h x0 (x4 + (1 : Int32)) fun v75 =>
      hI (c_B_runs h x1 v75) noX fun v77 h76 =>
      ldS h76 x0 (x4 + (1 : Int32)) fun v78 =>
      hI (c_M_runs h76 x2 v78) noX fun v80 h79 =>
      if v77 = v80 then
        r23 h79 x0 x1 x2 x3 (x4 + (6 : Int32))
      else
        rZ (0 : Int32) h79
    else
    if (v2 &&& (63 : Int32)) = 10 then
      ldS h x0 (x4 + (1 : Int32)) fun v81 =>
      ldS h x0 (x4 + (2 : Int32)) fun v82 =>
      hI (c_B_longest h x1 v81 v82) noX fun v84 h83 =>
      ldS h83 x0 (x4 + (1 : Int32)) fun v85 =>
      ldS h83 x0 (x4 + (2 : Int32)) fun v86 =>
      hI (c_M_longest h83 x2 v85 v86) noX fun v88 h87 =>
      if v84 = v88 then
        r23 h87 x0 x1 x2 x3 (x4 + (6 : Int32))
      else
        rZ (0 : Int32) h87
    else
    if (v2 &&& (63 : Int32)) = 11 then
      ldS h x0 (x4 + (1 : Int32)) fun v89 =>
      ldS h x0 (x4 + (2 : Int32)) fun v90 =>
      hI (c_W_word h x1 v89 v90 x3) noX fun v92 h91 =>
      ldS h91 x0 (x4 + (1 : Int32)) fun v93 =>
      ldS h91 x0 (x4 + (2 : Int32)) fun v94 =>
      hI (c_M_word h91 x2 v93 v94) noX fun v96 h95 =>
      hI (c_M_thrown h95 x2) noX fun v98 h97 =>
      if v98 = v92 then
        if v92 = 0 then
          ldL h97 x3 (0 : Int32) fun v99 =>
          if (lg_cmp v99 v96.toInt64) = 0 then
            r23 h97 x0 x1 x2 x3 (x4 + (6 : Int32))
          else
            rZ (0 : Int32) h97
        else
          r23 h97 x0 x1 x2 x3 (x4 + (6 : Int32))
      else
        rZ (0 : Int32) h97
    else
    if (v2 &&& (63 : Int32)) = 12 then
      ldS h x0 (x4 + (1 : Int32)) fun v100 =>
      hI (c_B_leaves h x1 v100) noX fun v102 h101 =>
      ldS h101 x0 (x4 + (1 : Int32)) fun v103 =>
      hI (c_M_leaves h101 x2 v103) noX fun v105 h104 =>
      if v102 = v105 then
        r23 h104 x0 x1 x2 x3 (x4 + (6 : Int32))
      else
        rZ (0 : Int32) h104
    else
    if (v2 &&& (63 : Int32)) = 13 then
      ldS h x0 (x4 + (1 : Int32)) fun v106 =>
      ldS h x0 (x4 + (2 : Int32)) fun v107 =>
      ldS h x0 (x4 + (3 : Int32)) fun v108 =>
      hI (c_B_leaf h x1 v106 v107 v108) noX fun v110 h109 =>
      ldS h109 x0 (x4 + (1 : Int32)) fun v111 =>
      ldS h109 x0 (x4 + (2 : Int32)) fun v112 =>
      ldS h109 x0 (x4 + (3 : Int32)) fun v113 =>
      hI (c_M_leaf h109 x2 v111 v112 v113) noX fun v115 h114 =>
      if v110 = v115 then
        r23 h114 x0 x1 x2 x3 (x4 + (6 : Int32))
      else
        rZ (0 : Int32) h114
    else
    if (v2 &&& (63 : Int32)) = 14 then
      ldS h x0 (x4 + (1 : Int32)) fun v116 =>
      ldS h x0 (x4 + (2 : Int32)) fun v117 =>
      hI (c_B_tree h x1 v116 v117) noX fun v119 h118 =>
      ldS h118 x0 (x4 + (1 : Int32)) fun v120 =>
      ldS h118 x0 (x4 + (2 : Int32)) fun v121 =>
      hI (c_M_tree h118 x2 v120 v121) noX fun v123 h122 =>
      if v119 = v123 then
        r23 h122 x0 x1 x2 x3 (x4 + (6 : Int32))
      else
        rZ (0 : Int32) h122
    else
    if (v2 &&& (63 : Int32)) = 15 then
      ldS h x0 (x4 + (1 : Int32)) fun v124 =>
      ldS h x0 (x4 + (2 : Int32)) fun v125 =>
      ldS h x0 (x4 + (3 : Int32)) fun v126 =>
      hI (c_W_dense h x1 v124 v125 v126 x3) noX fun v128 h127 =>
      ldS h127 x0 (x4 + (1 : Int32)) fun v129 =>
      ldS h127 x0 (x4 + (2 : Int32)) fun v130 =>
      ldS h127 x0 (x4 + (3 : Int32)) fun v131 =>
      hI (c_M_dense h127 x2 v129 v130 v131) noX fun v133 h132 =>
      hI (c_M_thrown h132 x2) noX fun v135 h134 =>
      if v135 = v128 then
        if v128 = 0 then
          ldL h134 x3 (0 : Int32) fun v136 =>
          if (lg_cmp v136 v133.toInt64) = 0 then
            r23 h134 x0 x1 x2 x3 (x4 + (6 : Int32))
          else
            rZ (0 : Int32) h134
        else
          r23 h134 x0 x1 x2 x3 (x4 + (6 : Int32))
      else
        rZ (0 : Int32) h134
    else
    if (v2 &&& (63 : Int32)) = 16 then
      ldS h x0 (x4 + (1 : Int32)) fun v137 =>
      hI (c_W_load h x1 v137 x3) noX fun v139 h138 =>
      ldS h138 x0 (x4 + (1 : Int32)) fun v140 =>
      hI (c_M_load h138 x2 v140) noX fun v142 h141 =>
      hI (c_M_thrown h141 x2) noX fun v144 h143 =>
      if v144 = v139 then
        if v139 = 0 then
          ldL h143 x3 (0 : Int32) fun v145 =>
          if (lg_cmp v145 v142.toInt64) = 0 then
            r23 h143 x0 x1 x2 x3 (x4 + (6 : Int32))
          else
            rZ (0 : Int32) h143
        else
          r23 h143 x0 x1 x2 x3 (x4 + (6 : Int32))
      else
        rZ (0 : Int32) h143
    else
    if (v2 &&& (63 : Int32)) = 17 then
      ldS h x0 (x4 + (1 : Int32)) fun v146 =>
      ldS h x0 (x4 + (2 : Int32)) fun v147 =>
      hI (c_W_centre h x1 v146 v147 x3) noX fun v149 h148 =>
      ldS h148 x0 (x4 + (1 : Int32)) fun v150 =>
      ldS h148 x0 (x4 + (2 : Int32)) fun v151 =>
      hI (c_M_centre h148 x2 v150 v151) noX fun v153 h152 =>
      hI (c_M_thrown h152 x2) noX fun v155 h154 =>
      if v155 = v149 then
        if v149 = 0 then
          ldL h154 x3 (0 : Int32) fun v156 =>
          if (lg_cmp v156 v153.toInt64) = 0 then
            r23 h154 x0 x1 x2 x3 (x4 + (6 : Int32))
          else
            rZ (0 : Int32) h154
        else
          r23 h154 x0 x1 x2 x3 (x4 + (6 : Int32))
      else
        rZ (0 : Int32) h154
    else
    if (v2 &&& (63 : Int32)) = 18 then
      ldS h x0 (x4 + (1 : Int32)) fun v157 =>
      ldS h x0 (x4 + (2 : Int32)) fun v158 =>
      hI (c_B_apart h x1 v157 v158) noX fun v160 h159 =>
      ldS h159 x0 (x4 + (1 : Int32)) fun v161 =>
      ldS h159 x0 (x4 + (2 : Int32)) fun v162 =>
      hI (c_M_apart h159 x2 v161 v162) noX fun v164 h163 =>
      if v160 = v164 then
        r23 h163 x0 x1 x2 x3 (x4 + (6 : Int32))
      else
        rZ (0 : Int32) h163
    else
    if (v2 &&& (63 : Int32)) = 19 then
      ldS h x0 (x4 + (1 : Int32)) fun v165 =>
      ldS h x0 (x4 + (2 : Int32)) fun v166 =>
      hI (c_B_differ h x1 v165 v166) noX fun v168 h167 =>
      ldS h167 x0 (x4 + (1 : Int32)) fun v169 =>
      ldS h167 x0 (x4 + (2 : Int32)) fun v170 =>
      hI (c_M_differ h167 x2 v169 v170) noX fun v172 h171 =>
      if v168 = v172 then
        r23 h171 x0 x1 x2 x3 (x4 + (6 : Int32))
      else
        rZ (0 : Int32) h171
    else
    if (v2 &&& (63 : Int32)) = 20 then
      ldS h x0 (x4 + (1 : Int32)) fun v173 =>
      hI (c_B_seek h x1 v173) noX fun v175 h174 =>
      ldS h174 x0 (x4 + (1 : Int32)) fun v176 =>
      hI (c_M_seek h174 x2 v176) noX fun v178 h177 =>
      if v175 = v178 then
        r23 h177 x0 x1 x2 x3 (x4 + (6 : Int32))
      else
        rZ (0 : Int32) h177
    else
    if (v2 &&& (63 : Int32)) = 21 then
      ldS h x0 (x4 + (1 : Int32)) fun v179 =>
      hI (c_B_seekAt h x1 v179) noX fun v181 h180 =>
      ldS h180 x0 (x4 + (1 : Int32)) fun v182 =>
      hI (c_M_seekAt h180 x2 v182) noX fun v184 h183 =>
      if v181 = v184 then
        r23 h183 x0 x1 x2 x3 (x4 + (6 : Int32))
      else
        rZ (0 : Int32) h183
    else
    if (v2 &&& (63 : Int32)) = 22 then
      ldS h x0 (x4 + (1 : Int32)) fun v185 =>
      ldS h x0 (x4 + (2 : Int32)) fun v186 =>
      ldS h x0 (x4 + (3 : Int32)) fun v187 =>
      hI (c_B_put h x1 v185 v186 v187) noX fun v189 h188 =>
      ldS h188 x0 (x4 + (1 : Int32)) fun v190 =>
      ldS h188 x0 (x4 + (2 : Int32)) fun v191 =>
      ldS h188 x0 (x4 + (3 : Int32)) fun v192 =>
      hI (c_M_put h188 x2 v190 v191 v192) noX fun v194 h193 =>
      if v189 = v194 then
        r23 h193 x0 x1 x2 x3 (x4 + (6 : Int32))
      else
        rZ (0 : Int32) h193
    else
    if (v2 &&& (63 : Int32)) = 23 then
      ldS h x0 (x4 + (1 : Int32)) fun v195 =>
      ldS h x0 (x4 + (2 : Int32)) fun v196 =>
      ldS h x0 (x4 + (3 : Int32)) fun v197 =>
      hI (c_B_set h x1 v195 v196 v197) noX fun v199 h198 =>
      ldS h198 x0 (x4 + (1 : Int32)) fun v200 =>
      ldS h198 x0 (x4 + (2 : Int32)) fun v201 =>
      ldS h198 x0 (x4 + (3 : Int32)) fun v202 =>
      hI (c_M_set h198 x2 v200 v201 v202) noX fun v204 h203 =>
      if v199 = v204 then
        r23 h203 x0 x1 x2 x3 (x4 + (6 : Int32))
      else
        rZ (0 : Int32) h203
    else
    if (v2 &&& (63 : Int32)) = 24 then
      ldS h x0 (x4 + (1 : Int32)) fun v205 =>
      ldS h x0 (x4 + (2 : Int32)) fun v206 =>
      ldS h x0 (x4 + (3 : Int32)) fun v207 =>
      hI (c_B_cut h x1 v205 v206 v207) noX fun v209 h208 =>
      ldS h208 x0 (x4 + (1 : Int32)) fun v210 =>
      ldS h208 x0 (x4 + (2 : Int32)) fun v211 =>
      ldS h208 x0 (x4 + (3 : Int32)) fun v212 =>
      hI (c_M_cut h208 x2 v210 v211 v212) noX fun v214 h213 =>
      if v209 = v214 then
        r23 h213 x0 x1 x2 x3 (x4 + (6 : Int32))
      else
        rZ (0 : Int32) h213
    else
    if (v2 &&& (63 : Int32)) = 25 then
      ldS h x0 (x4 + (1 : Int32)) fun v215 =>
      ldS h x0 (x4 + (2 : Int32)) fun v216 =>
      ldS h x0 (x4 + (3 : Int32)) fun v217 =>
      hI (c_B_turn h x1 v215 v216 v217) noX fun v219 h218 =>
      ldS h218 x0 (x4 + (1 : Int32)) fun v220 =>
      ldS h218 x0 (x4 + (2 : Int32)) fun v221 =>
      ldS h218 x0 (x4 + (3 : Int32)) fun v222 =>
      hI (c_M_turn h218 x2 v220 v221 v222) noX fun v224 h223 =>
      if v219 = v224 then
        r23 h223 x0 x1 x2 x3 (x4 + (6 : Int32))
      else
        rZ (0 : Int32) h223
    else
    if (v2 &&& (63 : Int32)) = 26 then
      ldS h x0 (x4 + (1 : Int32)) fun v225 =>
      ldS h x0 (x4 + (2 : Int32)) fun v226 =>
      hI (c_B_paste h x1 v225 v226) noX fun v228 h227 =>
      ldS h227 x0 (x4 + (1 : Int32)) fun v229 =>
      ldS h227 x0 (x4 + (2 : Int32)) fun v230 =>
      hI (c_M_paste h227 x2 v229 v230) noX fun v232 h231 =>
      if v228 = v232 then
        r23 h231 x0 x1 x2 x3 (x4 + (6 : Int32))
      else
        rZ (0 : Int32) h231
    else
    if (v2 &&& (63 : Int32)) = 27 then
      ldS h x0 (x4 + (1 : Int32)) fun v233 =>
      ldS h x0 (x4 + (2 : Int32)) fun v234 =>
      hI (c_B_join h x1 v233 v234) noX fun v236 h235 =>
      ldS h235 x0 (x4 + (1 : Int32)) fun v237 =>
      ldS h235 x0 (x4 + (2 : Int32)) fun v238 =>
      hI (c_M_join h235 x2 v237 v238) noX fun v240 h239 =>
      if v236 = v240 then
        r23 h239 x0 x1 x2 x3 (x4 + (6 : Int32))
      else
        rZ (0 : Int32) h239
    else
    if (v2 &&& (63 : Int32)) = 28 then
      ldS h x0 (x4 + (1 : Int32)) fun v241 =>
      ldS h x0 (x4 + (2 : Int32)) fun v242 =>
      ldS h x0 (x4 + (3 : Int32)) fun v243 =>
      hI (c_B_split h x1 v241 v242 v243) noX fun v245 h244 =>
      ldS h244 x0 (x4 + (1 : Int32)) fun v246 =>
      ldS h244 x0 (x4 + (2 : Int32)) fun v247 =>
      ldS h244 x0 (x4 + (3 : Int32)) fun v248 =>
      hI (c_M_split h244 x2 v246 v247 v248) noX fun v250 h249 =>
      if v245 = v250 then
        r23 h249 x0 x1 x2 x3 (x4 + (6 : Int32))
      else
        rZ (0 : Int32) h249
    else
    if (v2 &&& (63 : Int32)) = 29 then
      hI (c_B_letters h x1) noX fun v252 h251 =>
      hI (c_M_letters h251 x2) noX fun v254 h253 =>
      if v252 = v254 then
        r23 h253 x0 x1 x2 x3 (x4 + (6 : Int32))
      else
        rZ (0 : Int32) h253
    else
    if (v2 &&& (63 : Int32)) = 30 then
      ldS h x0 (x4 + (1 : Int32)) fun v255 =>
      hI (c_B_letter h x1 v255) noX fun v257 h256 =>
      ldS h256 x0 (x4 + (1 : Int32)) fun v258 =>
      hI (c_M_letter h256 x2 v258) noX fun v260 h259 =>
      if v257 = v260 then
        r23 h259 x0 x1 x2 x3 (x4 + (6 : Int32))
      else
        rZ (0 : Int32) h259
    else
    if (v2 &&& (63 : Int32)) = 31 then
      ldS h x0 (x4 + (1 : Int32)) fun v261 =>
      ldS h x0 (x4 + (2 : Int32)) fun v262 =>
      hI (c_B_count h x1 v261 v262) noX fun v264 h263 =>
      ldS h263 x0 (x4 + (1 : Int32)) fun v265 =>
      ldS h263 x0 (x4 + (2 : Int32)) fun v266 =>
      hI (c_M_count h263 x2 v265 v266) noX fun v268 h267 =>
      if v264 = v268 then
        r23 h267 x0 x1 x2 x3 (x4 + (6 : Int32))
      else
        rZ (0 : Int32) h267
    else
    if (v2 &&& (63 : Int32)) = 32 then
      ldS h x0 (x4 + (1 : Int32)) fun v269 =>
      ldS h x0 (x4 + (2 : Int32)) fun v270 =>
      hI (c_B_place h x1 v269 v270) noX fun v272 h271 =>
      ldS h271 x0 (x4 + (1 : Int32)) fun v273 =>
      ldS h271 x0 (x4 + (2 : Int32)) fun v274 =>
      hI (c_M_place h271 x2 v273 v274) noX fun v276 h275 =>
      if v272 = v276 then
        r23 h275 x0 x1 x2 x3 (x4 + (6 : Int32))
      else
        rZ (0 : Int32) h275
    else
    if (v2 &&& (63 : Int32)) = 33 then
      ldS h x0 (x4 + (1 : Int32)) fun v277 =>
      ldS h x0 (x4 + (2 : Int32)) fun v278 =>
      ldS h x0 (x4 + (3 : Int32)) fun v279 =>
      hI (c_B_least h x1 v277 v278 v279) noX fun v281 h280 =>
      ldS h280 x0 (x4 + (1 : Int32)) fun v282 =>
      ldS h280 x0 (x4 + (2 : Int32)) fun v283 =>
      ldS h280 x0 (x4 + (3 : Int32)) fun v284 =>
      hI (c_M_least h280 x2 v282 v283 v284) noX fun v286 h285 =>
      if v281 = v286 then
        r23 h285 x0 x1 x2 x3 (x4 + (6 : Int32))
      else
        rZ (0 : Int32) h285
    else
    if (v2 &&& (63 : Int32)) = 34 then
      ldS h x0 (x4 + (1 : Int32)) fun v287 =>
      ldS h x0 (x4 + (2 : Int32)) fun v288 =>
      hI (c_B_node h x1 v287 v288) noX fun v290 h289 =>
      ldS h289 x0 (x4 + (1 : Int32)) fun v291 =>
      ldS h289 x0 (x4 + (2 : Int32)) fun v292 =>
      hI (c_M_node h289 x2 v291 v292) noX fun v294 h293 =>
      if v290 = v294 then
        r23 h293 x0 x1 x2 x3 (x4 + (6 : Int32))
      else
        rZ (0 : Int32) h293
    else
    if (v2 &&& (63 : Int32)) = 35 then
      ldS h x0 (x4 + (1 : Int32)) fun v295 =>
      ldS h x0 (x4 + (2 : Int32)) fun v296 =>
      hI (c_B_type h x1 v295 v296) noX fun v298 h297 =>
      ldS h297 x0 (x4 + (1 : Int32)) fun v299 =>
      ldS h297 x0 (x4 + (2 : Int32)) fun v300 =>
      hI (c_M_type h297 x2 v299 v300) noX fun v302 h301 =>
      if v298 = v302 then
        r23 h301 x0 x1 x2 x3 (x4 + (6 : Int32))
      else
        rZ (0 : Int32) h301
    else
    if (v2 &&& (63 : Int32)) = 36 then
      ldS h x0 (x4 + (1 : Int32)) fun v303 =>
      ldS h x0 (x4 + (2 : Int32)) fun v304 =>
      hI (c_B_erase h x1 v303 v304) noX fun v306 h305 =>
      ldS h305 x0 (x4 + (1 : Int32)) fun v307 =>
      ldS h305 x0 (x4 + (2 : Int32)) fun v308 =>
      hI (c_M_erase h305 x2 v307 v308) noX fun v310 h309 =>
      if v306 = v310 then
        r23 h309 x0 x1 x2 x3 (x4 + (6 : Int32))
      else
        rZ (0 : Int32) h309
    else
    if (v2 &&& (63 : Int32)) = 37 then
      hI (c_B_undo h x1) noX fun v312 h311 =>
      hI (c_M_undo h311 x2) noX fun v314 h313 =>
      if v312 = v314 then
        r23 h313 x0 x1 x2 x3 (x4 + (6 : Int32))
      else
        rZ (0 : Int32) h313
    else
    if (v2 &&& (63 : Int32)) = 38 then
      ldS h x0 (x4 + (1 : Int32)) fun v315 =>
      ldS h x0 (x4 + (2 : Int32)) fun v316 =>
      hI (c_B_drawn h x1 v315 v316) noX fun v318 h317 =>
      ldS h317 x0 (x4 + (1 : Int32)) fun v319 =>
      ldS h317 x0 (x4 + (2 : Int32)) fun v320 =>
      hI (c_M_drawn h317 x2 v319 v320) noX fun v322 h321 =>
      if v318 = v322 then
        r23 h321 x0 x1 x2 x3 (x4 + (6 : Int32))
      else
        rZ (0 : Int32) h321
    else
    if (v2 &&& (63 : Int32)) = 39 then
      ldS h x0 (x4 + (1 : Int32)) fun v323 =>
      hI (c_B_book h x1 v323) noX fun v325 h324 =>
      ldS h324 x0 (x4 + (1 : Int32)) fun v326 =>
      hI (c_M_book h324 x2 v326) noX fun v328 h327 =>
      if v325 = v328 then
        r23 h327 x0 x1 x2 x3 (x4 + (6 : Int32))
      else
        rZ (0 : Int32) h327
    else
    if (v2 &&& (63 : Int32)) = 40 then
      ldS h x0 (x4 + (1 : Int32)) fun v329 =>
      hI (c_B_told h x1 v329) noX fun v331 h330 =>
      ldS h330 x0 (x4 + (1 : Int32)) fun v332 =>
      hI (c_M_told h330 x2 v332) noX fun v334 h333 =>
      if v331 = v334 then
        r23 h333 x0 x1 x2 x3 (x4 + (6 : Int32))
      else
        rZ (0 : Int32) h333
    else
    if (v2 &&& (63 : Int32)) = 41 then
      hI (c_B_sentence h x1) noX fun v336 h335 =>
      hI (c_M_sentence h335 x2) noX fun v338 h337 =>
      if v336 = v338 then
        r23 h337 x0 x1 x2 x3 (x4 + (6 : Int32))
      else
        rZ (0 : Int32) h337
    else
    if (v2 &&& (63 : Int32)) = 42 then
      ldS h x0 (x4 + (1 : Int32)) fun v339 =>
      hI (c_B_said h x1 v339) noX fun v341 h340 =>
      ldS h340 x0 (x4 + (1 : Int32)) fun v342 =>
      hI (c_M_said h340 x2 v342) noX fun v344 h343 =>
      if v341 = v344 then
        r23 h343 x0 x1 x2 x3 (x4 + (6 : Int32))
      else
        rZ (0 : Int32) h343
    else
    if (v2 &&& (63 : Int32)) = 43 then
      ldS h x0 (x4 + (1 : Int32)) fun v345 =>
      hI (c_B_image h x1 v345) noX fun v347 h346 =>
      ldS h346 x0 (x4 + (1 : Int32)) fun v348 =>
      hI (c_M_image h346 x2 v348) noX fun v350 h349 =>
      if v347 = v350 then
        r23 h349 x0 x1 x2 x3 (x4 + (6 : Int32))
      else
        rZ (0 : Int32) h349
    else
    if (v2 &&& (63 : Int32)) = 44 then
      ldS h x0 (x4 + (1 : Int32)) fun v351 =>
      hI (c_B_restore h x1 v351) noX fun v353 h352 =>
      ldS h352 x0 (x4 + (1 : Int32)) fun v354 =>
      hI (c_M_restore h352 x2 v354) noX fun v356 h355 =>
      if v353 = v356 then
        r23 h355 x0 x1 x2 x3 (x4 + (6 : Int32))
      else
        rZ (0 : Int32) h355
    else
    if (v2 &&& (63 : Int32)) = 45 then
      ldS h x0 (x4 + (1 : Int32)) fun v357 =>
      hI (c_B_total h x1 v357) noX fun v359 h358 =>
      ldS h358 x0 (x4 + (1 : Int32)) fun v360 =>
      hI (c_M_total h358 x2 v360) noX fun v362 h361 =>
      if v359 = v362 then
        r23 h361 x0 x1 x2 x3 (x4 + (6 : Int32))
      else
        rZ (0 : Int32) h361
    else
    r23 h x0 x1 x2 x3 (x4 + (6 : Int32))
def c_W_law (h : PH) (x0 : Nat) : Option RH :=
  newO h 0 [.null, .int 0, .int 0, .null, .null, .null, .null, .null, .null, .null, .null, .int 0, .null, .int 0, .null, .int 0, .null, .int 0, .null, .null, .null] fun a1 h2 =>
  hV (c_B_init h2 a1) noX fun h3 =>
  newO h3 8 [.int 0, .null, .int 0, .int 0, .int 0, .int 0, .int 0, .int 0, .int 0, .int 0, .int 0, .int 0, .long 0, .int 0, .null, .null, .null, .null, .null, .null, .null, .null, .null, .null, .int 0, .int 0, .int 0, .null, .int 0, .int 0, .null, .null, .int 0, .int 0, .null, .int 0, .int 0, .int 0, .int 0] fun a4 h5 =>
  hV (c_M_init h5 a4) noX fun h6 =>
  newA h6 1 (1 : Int32) (.inr (.inl (fun _ => 0))) fun a7 h8 =>
  itr (c_W_law_l23) (fun _ _ _ _ _ _ => none) FU h8 x0 a1 a4 a7 (0 : Int32)
set_option maxHeartbeats 4000000 in
theorem w_W_law_l23 (r23 : PH → Nat → Nat → Nat → Nat → Int32 → Option RH) (hr23 : ∀ (h : PH) (x0 : Nat) (x1 : Nat) (x2 : Nat) (x3 : Nat) (x4 : Int32), Sim Y_W_law h 23 [(0, .ref x0), (1, .ref x1), (2, .ref x2), (3, .ref x3), (4, .int x4)] [] (r23 h x0 x1 x2 x3 x4)) (h : PH) (x0 : Nat) (x1 : Nat) (x2 : Nat) (x3 : Nat) (x4 : Int32) : Sim Y_W_law h 23 [(0, .ref x0), (1, .ref x1), (2, .ref x2), (3, .ref x3), (4, .int x4)] [] (c_W_law_l23 r23 h x0 x1 x2 x3 x4) := by
  unfold c_W_law_l23
  refine x_iload (pc := 23) 4 rfl dL_law_23 ?_
  refine x_aload_nR (pc := 25) (a := x0) 0 rfl rfl dL_law_25 ?_
  refine x_scrL (pc := 26) dL_law_26 ?_
  intro v1
  refine x_bipush (pc := 27) (v := 6) (by decide) dL_law_27 ?_
  refine x_isub (pc := 29) dL_law_29 ?_
  refine x_icmp_gt (pc := 30) 1952 (by decide) dL_law_30 ?_ ?_
  · refine x_iconst (pc := 1952) (v := 1) (by decide) dL_law_1952 ?_
    exact x_zret (pc := 1953) dL_law_1953
  · refine x_aload_nR (pc := 33) (a := x0) 0 rfl rfl dL_law_33 ?_
    refine x_iload (pc := 34) 4 rfl dL_law_34 ?_
    refine x_scrI (pc := 36) dL_law_36 ?_
    intro v2
    refine x_bipush (pc := 37) (v := 63) (by decide) dL_law_37 ?_
    refine x_iand (pc := 39) dL_law_39 ?_
    refine x_sw0 (pc := 40) (lo := 0) ?_
    refine x_sw (pc := 40) (v := 0) 240 dL_law_40 rfl (by decide) (by decide) rfl (by decide) ?_ ?_
    · refine x_aload_nR (pc := 240) (a := x1) 1 rfl rfl dL_law_240 ?_
      refine x_aload_nR (pc := 241) (a := x0) 0 rfl rfl dL_law_241 ?_
      refine x_iload (pc := 242) 4 rfl dL_law_242 ?_
      refine x_iconst (pc := 244) (v := 1) (by decide) dL_law_244 ?_
      refine x_iadd (pc := 245) dL_law_245 ?_
      refine x_scrI (pc := 246) dL_law_246 ?_
      intro v3
      refine x_aload_nR (pc := 247) (a := x0) 0 rfl rfl dL_law_247 ?_
      refine x_iload (pc := 248) 4 rfl dL_law_248 ?_
      refine x_iconst (pc := 250) (v := 2) (by decide) dL_law_250 ?_
      refine x_iadd (pc := 251) dL_law_251 ?_
      refine x_scrI (pc := 252) dL_law_252 ?_
      intro v4
      refine x_aload_nR (pc := 253) (a := x0) 0 rfl rfl dL_law_253 ?_
      refine x_iload (pc := 254) 4 rfl dL_law_254 ?_
      refine x_iconst (pc := 256) (v := 3) (by decide) dL_law_256 ?_
      refine x_iadd (pc := 257) dL_law_257 ?_
      refine x_scrI (pc := 258) dL_law_258 ?_
      intro v5
      refine x_aload_nR (pc := 259) (a := x0) 0 rfl rfl dL_law_259 ?_
      refine x_iload (pc := 260) 4 rfl dL_law_260 ?_
      refine x_iconst (pc := 262) (v := 4) (by decide) dL_law_262 ?_
      refine x_iadd (pc := 263) dL_law_263 ?_
      refine x_scrI (pc := 264) dL_law_264 ?_
      intro v6
      refine x_aload_nR (pc := 265) (a := x0) 0 rfl rfl dL_law_265 ?_
      refine x_iload (pc := 266) 4 rfl dL_law_266 ?_
      refine x_iconst (pc := 268) (v := 5) (by decide) dL_law_268 ?_
      refine x_iadd (pc := 269) dL_law_269 ?_
      refine x_scrI (pc := 270) dL_law_270 ?_
      intro v7
      refine x_callV (pc := 271) (As := [.int v3, .int v4, .int v5, .int v6, .int v7]) (rest := []) (lev' := 2) si_X0_30 (m_B_feed h x1 v3 v4 v5 v6 v7) (fun z e => grd1 e) rfl rfl (by decide) (cat4 (Nat.le_of_ble_eq_true rfl)) dL_law_271 (kI (fun v9 h8 => ?_)) xNo
      refine x_aload_nR (pc := 274) (a := x2) 2 rfl rfl dL_law_274 ?_
      refine x_aload_nR (pc := 275) (a := x0) 0 rfl rfl dL_law_275 ?_
      refine x_iload (pc := 276) 4 rfl dL_law_276 ?_
      refine x_iconst (pc := 278) (v := 1) (by decide) dL_law_278 ?_
      refine x_iadd (pc := 279) dL_law_279 ?_
      refine x_scrI (pc := 280) dL_law_280 ?_
      intro v10
      refine x_aload_nR (pc := 281) (a := x0) 0 rfl rfl dL_law_281 ?_
      refine x_iload (pc := 282) 4 rfl dL_law_282 ?_
      refine x_iconst (pc := 284) (v := 2) (by decide) dL_law_284 ?_
      refine x_iadd (pc := 285) dL_law_285 ?_
      refine x_scrI (pc := 286) dL_law_286 ?_
      intro v11
      refine x_aload_nR (pc := 287) (a := x0) 0 rfl rfl dL_law_287 ?_
      refine x_iload (pc := 288) 4 rfl dL_law_288 ?_
      refine x_iconst (pc := 290) (v := 3) (by decide) dL_law_290 ?_
      refine x_iadd (pc := 291) dL_law_291 ?_
      refine x_scrI (pc := 292) dL_law_292 ?_
      intro v12
      refine x_aload_nR (pc := 293) (a := x0) 0 rfl rfl dL_law_293 ?_
      refine x_iload (pc := 294) 4 rfl dL_law_294 ?_
      refine x_iconst (pc := 296) (v := 4) (by decide) dL_law_296 ?_
      refine x_iadd (pc := 297) dL_law_297 ?_
      refine x_scrI (pc := 298) dL_law_298 ?_
      intro v13
      refine x_aload_nR (pc := 299) (a := x0) 0 rfl rfl dL_law_299 ?_
      refine x_iload (pc := 300) 4 rfl dL_law_300 ?_
      refine x_iconst (pc := 302) (v := 5) (by decide) dL_law_302 ?_
      refine x_iadd (pc := 303) dL_law_303 ?_
      refine x_scrI (pc := 304) dL_law_304 ?_
      intro v14
      refine x_callV (pc := 305) (As := [.int v10, .int v11, .int v12, .int v13, .int v14]) (rest := [.int v9]) (lev' := 2) si_X0_34 (m_M_feed h8 x2 v10 v11 v12 v13 v14) (fun z e => grd1 e) rfl rfl (by decide) (cat4 (Nat.le_of_ble_eq_true rfl)) dL_law_305 (kI (fun v16 h15 => ?_)) xNo
      refine x_icmp_eq (pc := 308) 1946 (by decide) dL_law_308 ?_ ?_
      · refine x_iinc (pc := 1946) (v := (6 : Int32)) (lv' := [(4, .int (x4 + (6 : Int32))), (0, .ref x0), (1, .ref x1), (2, .ref x2), (3, .ref x3)]) 4 rfl (by decide) (by decide) rfl dL_law_1946 ?_
        refine x_goto (pc := 1949) 23 (by decide) dL_law_1949 ?_
        refine Sim.lv [1, 2, 3, 4, 0] rfl ?_
        exact hr23 h15 x0 x1 x2 x3 (x4 + (6 : Int32))
      · refine x_iconst (pc := 311) (v := 0) (by decide) dL_law_311 ?_
        exact x_zret (pc := 312) dL_law_312
    refine x_sw (pc := 40) (v := 1) 313 dL_law_40 rfl (by decide) (by decide) rfl (by decide) ?_ ?_
    · refine x_aload_nR (pc := 313) (a := x1) 1 rfl rfl dL_law_313 ?_
      refine x_aload_nR (pc := 314) (a := x0) 0 rfl rfl dL_law_314 ?_
      refine x_iload (pc := 315) 4 rfl dL_law_315 ?_
      refine x_iconst (pc := 317) (v := 1) (by decide) dL_law_317 ?_
      refine x_iadd (pc := 318) dL_law_318 ?_
      refine x_scrI (pc := 319) dL_law_319 ?_
      intro v17
      refine x_callV (pc := 320) (As := [.int v17]) (rest := []) (lev' := 1) si_X0_35 (m_B_end h x1 v17) (fun z e => grd1 e) rfl rfl (by decide) (cat4 (Nat.le_of_ble_eq_true rfl)) dL_law_320 (kI (fun v19 h18 => ?_)) xNo
      refine x_aload_nR (pc := 323) (a := x2) 2 rfl rfl dL_law_323 ?_
      refine x_aload_nR (pc := 324) (a := x0) 0 rfl rfl dL_law_324 ?_
      refine x_iload (pc := 325) 4 rfl dL_law_325 ?_
      refine x_iconst (pc := 327) (v := 1) (by decide) dL_law_327 ?_
      refine x_iadd (pc := 328) dL_law_328 ?_
      refine x_scrI (pc := 329) dL_law_329 ?_
      intro v20
      refine x_callV (pc := 330) (As := [.int v20]) (rest := [.int v19]) (lev' := 1) si_X0_39 (m_M_end h18 x2 v20) (fun z e => grd1 e) rfl rfl (by decide) (cat4 (Nat.le_of_ble_eq_true rfl)) dL_law_330 (kI (fun v22 h21 => ?_)) xNo
      refine x_icmp_eq (pc := 333) 1946 (by decide) dL_law_333 ?_ ?_
      · refine x_iinc (pc := 1946) (v := (6 : Int32)) (lv' := [(4, .int (x4 + (6 : Int32))), (0, .ref x0), (1, .ref x1), (2, .ref x2), (3, .ref x3)]) 4 rfl (by decide) (by decide) rfl dL_law_1946 ?_
        refine x_goto (pc := 1949) 23 (by decide) dL_law_1949 ?_
        refine Sim.lv [1, 2, 3, 4, 0] rfl ?_
        exact hr23 h21 x0 x1 x2 x3 (x4 + (6 : Int32))
      · refine x_iconst (pc := 336) (v := 0) (by decide) dL_law_336 ?_
        exact x_zret (pc := 337) dL_law_337
    refine x_sw (pc := 40) (v := 2) 338 dL_law_40 rfl (by decide) (by decide) rfl (by decide) ?_ ?_
    · refine x_aload_nR (pc := 338) (a := x1) 1 rfl rfl dL_law_338 ?_
      refine x_callVX (pc := 339) (As := []) (rest := []) (lev' := 21) si_X0_40 (m_B_room h x1) (fun z e => grd1 e) rfl rfl (by decide) (cat4 (Nat.le_of_ble_eq_true rfl)) dL_law_339 (kI (fun v24 h23 => ?_)) xNo
      refine x_aload_nR (pc := 342) (a := x2) 2 rfl rfl dL_law_342 ?_
      refine x_callV (pc := 343) (As := []) (rest := [.int v24]) (lev' := 6) si_X0_44 (m_M_room h23 x2) (fun z e => grd1 e) rfl rfl (by decide) (cat4 (Nat.le_of_ble_eq_true rfl)) dL_law_343 (kI (fun v26 h25 => ?_)) xNo
      refine x_icmp_eq (pc := 346) 1946 (by decide) dL_law_346 ?_ ?_
      · refine x_iinc (pc := 1946) (v := (6 : Int32)) (lv' := [(4, .int (x4 + (6 : Int32))), (0, .ref x0), (1, .ref x1), (2, .ref x2), (3, .ref x3)]) 4 rfl (by decide) (by decide) rfl dL_law_1946 ?_
        refine x_goto (pc := 1949) 23 (by decide) dL_law_1949 ?_
        refine Sim.lv [1, 2, 3, 4, 0] rfl ?_
        exact hr23 h25 x0 x1 x2 x3 (x4 + (6 : Int32))
      · refine x_iconst (pc := 349) (v := 0) (by decide) dL_law_349 ?_
        exact x_zret (pc := 350) dL_law_350
    refine x_sw (pc := 40) (v := 3) 351 dL_law_40 rfl (by decide) (by decide) rfl (by decide) ?_ ?_
    · refine x_aload_nR (pc := 351) (a := x1) 1 rfl rfl dL_law_351 ?_
      refine x_callV (pc := 352) (As := []) (rest := []) (lev' := 1) si_X0_45 (m_B_fault h x1) (fun z e => grd1 e) rfl rfl (by decide) (cat4 (Nat.le_of_ble_eq_true rfl)) dL_law_352 (kI (fun v28 h27 => ?_)) xNo
      refine x_aload_nR (pc := 355) (a := x2) 2 rfl rfl dL_law_355 ?_
      refine x_callV (pc := 356) (As := []) (rest := [.int v28]) (lev' := 1) si_X0_48 (m_M_fault h27 x2) (fun z e => grd1 e) rfl rfl (by decide) (cat4 (Nat.le_of_ble_eq_true rfl)) dL_law_356 (kI (fun v30 h29 => ?_)) xNo
      refine x_icmp_eq (pc := 359) 1946 (by decide) dL_law_359 ?_ ?_
      · refine x_iinc (pc := 1946) (v := (6 : Int32)) (lv' := [(4, .int (x4 + (6 : Int32))), (0, .ref x0), (1, .ref x1), (2, .ref x2), (3, .ref x3)]) 4 rfl (by decide) (by decide) rfl dL_law_1946 ?_
        refine x_goto (pc := 1949) 23 (by decide) dL_law_1949 ?_
        refine Sim.lv [1, 2, 3, 4, 0] rfl ?_
        exact hr23 h29 x0 x1 x2 x3 (x4 + (6 : Int32))
      · refine x_iconst (pc := 362) (v := 0) (by decide) dL_law_362 ?_
        exact x_zret (pc := 363) dL_law_363
    refine x_sw (pc := 40) (v := 4) 364 dL_law_40 rfl (by decide) (by decide) rfl (by decide) ?_ ?_
    · refine x_aload_nR (pc := 364) (a := x1) 1 rfl rfl dL_law_364 ?_
      refine x_aload_nR (pc := 365) (a := x0) 0 rfl rfl dL_law_365 ?_
      refine x_iload (pc := 366) 4 rfl dL_law_366 ?_
      refine x_iconst (pc := 368) (v := 1) (by decide) dL_law_368 ?_
      refine x_iadd (pc := 369) dL_law_369 ?_
      refine x_scrI (pc := 370) dL_law_370 ?_
      intro v31
      refine x_callV (pc := 371) (As := [.int v31]) (rest := []) (lev' := 3) si_X0_49 (m_B_size h x1 v31) (fun z e => grd1 e) rfl rfl (by decide) (cat4 (Nat.le_of_ble_eq_true rfl)) dL_law_371 (kI (fun v33 h32 => ?_)) xNo
      refine x_aload_nR (pc := 374) (a := x2) 2 rfl rfl dL_law_374 ?_
      refine x_aload_nR (pc := 375) (a := x0) 0 rfl rfl dL_law_375 ?_
      refine x_iload (pc := 376) 4 rfl dL_law_376 ?_
      refine x_iconst (pc := 378) (v := 1) (by decide) dL_law_378 ?_
      refine x_iadd (pc := 379) dL_law_379 ?_
      refine x_scrI (pc := 380) dL_law_380 ?_
      intro v34
      refine x_callV (pc := 381) (As := [.int v34]) (rest := [.int v33]) (lev' := 3) si_X0_52 (m_M_size h32 x2 v34) (fun z e => grd1 e) rfl rfl (by decide) (cat4 (Nat.le_of_ble_eq_true rfl)) dL_law_381 (kI (fun v36 h35 => ?_)) xNo
      refine x_icmp_eq (pc := 384) 1946 (by decide) dL_law_384 ?_ ?_
      · refine x_iinc (pc := 1946) (v := (6 : Int32)) (lv' := [(4, .int (x4 + (6 : Int32))), (0, .ref x0), (1, .ref x1), (2, .ref x2), (3, .ref x3)]) 4 rfl (by decide) (by decide) rfl dL_law_1946 ?_
        refine x_goto (pc := 1949) 23 (by decide) dL_law_1949 ?_
        refine Sim.lv [1, 2, 3, 4, 0] rfl ?_
        exact hr23 h35 x0 x1 x2 x3 (x4 + (6 : Int32))
      · refine x_iconst (pc := 387) (v := 0) (by decide) dL_law_387 ?_
        exact x_zret (pc := 388) dL_law_388
    refine x_sw (pc := 40) (v := 5) 389 dL_law_40 rfl (by decide) (by decide) rfl (by decide) ?_ ?_
    · refine x_aload_nR (pc := 389) (a := x1) 1 rfl rfl dL_law_389 ?_
      refine x_aload_nR (pc := 390) (a := x0) 0 rfl rfl dL_law_390 ?_
      refine x_iload (pc := 391) 4 rfl dL_law_391 ?_
      refine x_iconst (pc := 393) (v := 1) (by decide) dL_law_393 ?_
      refine x_iadd (pc := 394) dL_law_394 ?_
      refine x_scrI (pc := 395) dL_law_395 ?_
      intro v37
      refine x_aload_nR (pc := 396) (a := x0) 0 rfl rfl dL_law_396 ?_
      refine x_iload (pc := 397) 4 rfl dL_law_397 ?_
      refine x_iconst (pc := 399) (v := 2) (by decide) dL_law_399 ?_
      refine x_iadd (pc := 400) dL_law_400 ?_
      refine x_scrI (pc := 401) dL_law_401 ?_
      intro v38
      refine x_callV (pc := 402) (As := [.int v37, .int v38]) (rest := []) (lev' := 115) si_X0_53 (m_B_bit h x1 v37 v38) (fun z e => grd1 e) rfl rfl (by decide) (cat4 (Nat.le_of_ble_eq_true rfl)) dL_law_402 (kI (fun v40 h39 => ?_)) xNo
      refine x_aload_nR (pc := 405) (a := x2) 2 rfl rfl dL_law_405 ?_
      refine x_aload_nR (pc := 406) (a := x0) 0 rfl rfl dL_law_406 ?_
      refine x_iload (pc := 407) 4 rfl dL_law_407 ?_
      refine x_iconst (pc := 409) (v := 1) (by decide) dL_law_409 ?_
      refine x_iadd (pc := 410) dL_law_410 ?_
      refine x_scrI (pc := 411) dL_law_411 ?_
      intro v41
      refine x_aload_nR (pc := 412) (a := x0) 0 rfl rfl dL_law_412 ?_
      refine x_iload (pc := 413) 4 rfl dL_law_413 ?_
      refine x_iconst (pc := 415) (v := 2) (by decide) dL_law_415 ?_
      refine x_iadd (pc := 416) dL_law_416 ?_
      refine x_scrI (pc := 417) dL_law_417 ?_
      intro v42
      refine x_callV (pc := 418) (As := [.int v41, .int v42]) (rest := [.int v40]) (lev' := 3) si_X0_56 (m_M_bit h39 x2 v41 v42) (fun z e => grd1 e) rfl rfl (by decide) (cat4 (Nat.le_of_ble_eq_true rfl)) dL_law_418 (kI (fun v44 h43 => ?_)) xNo
      refine x_icmp_eq (pc := 421) 1946 (by decide) dL_law_421 ?_ ?_
      · refine x_iinc (pc := 1946) (v := (6 : Int32)) (lv' := [(4, .int (x4 + (6 : Int32))), (0, .ref x0), (1, .ref x1), (2, .ref x2), (3, .ref x3)]) 4 rfl (by decide) (by decide) rfl dL_law_1946 ?_
        refine x_goto (pc := 1949) 23 (by decide) dL_law_1949 ?_
        refine Sim.lv [1, 2, 3, 4, 0] rfl ?_
        exact hr23 h43 x0 x1 x2 x3 (x4 + (6 : Int32))
      · refine x_iconst (pc := 424) (v := 0) (by decide) dL_law_424 ?_
        exact x_zret (pc := 425) dL_law_425
    refine x_sw (pc := 40) (v := 6) 426 dL_law_40 rfl (by decide) (by decide) rfl (by decide) ?_ ?_
    · refine x_aload_nR (pc := 426) (a := x1) 1 rfl rfl dL_law_426 ?_
      refine x_aload_nR (pc := 427) (a := x0) 0 rfl rfl dL_law_427 ?_
      refine x_iload (pc := 428) 4 rfl dL_law_428 ?_
      refine x_iconst (pc := 430) (v := 1) (by decide) dL_law_430 ?_
      refine x_iadd (pc := 431) dL_law_431 ?_
      refine x_scrI (pc := 432) dL_law_432 ?_
      intro v45
      refine x_aload_nR (pc := 433) (a := x0) 0 rfl rfl dL_law_433 ?_
      refine x_iload (pc := 434) 4 rfl dL_law_434 ?_
      refine x_iconst (pc := 436) (v := 2) (by decide) dL_law_436 ?_
      refine x_iadd (pc := 437) dL_law_437 ?_
      refine x_scrI (pc := 438) dL_law_438 ?_
      intro v46
      refine x_aload_nR (pc := 439) (a := x0) 0 rfl rfl dL_law_439 ?_
      refine x_iload (pc := 440) 4 rfl dL_law_440 ?_
      refine x_iconst (pc := 442) (v := 3) (by decide) dL_law_442 ?_
      refine x_iadd (pc := 443) dL_law_443 ?_
      refine x_scrI (pc := 444) dL_law_444 ?_
      intro v47
      refine x_callV (pc := 445) (As := [.int v45, .int v46, .int v47]) (rest := []) (lev' := 115) si_X0_57 (m_B_rank h x1 v45 v46 v47) (fun z e => grd1 e) rfl rfl (by decide) (cat4 (Nat.le_of_ble_eq_true rfl)) dL_law_445 (kI (fun v49 h48 => ?_)) xNo
      refine x_aload_nR (pc := 448) (a := x2) 2 rfl rfl dL_law_448 ?_
      refine x_aload_nR (pc := 449) (a := x0) 0 rfl rfl dL_law_449 ?_
      refine x_iload (pc := 450) 4 rfl dL_law_450 ?_
      refine x_iconst (pc := 452) (v := 1) (by decide) dL_law_452 ?_
      refine x_iadd (pc := 453) dL_law_453 ?_
      refine x_scrI (pc := 454) dL_law_454 ?_
      intro v50
      refine x_aload_nR (pc := 455) (a := x0) 0 rfl rfl dL_law_455 ?_
      refine x_iload (pc := 456) 4 rfl dL_law_456 ?_
      refine x_iconst (pc := 458) (v := 2) (by decide) dL_law_458 ?_
      refine x_iadd (pc := 459) dL_law_459 ?_
      refine x_scrI (pc := 460) dL_law_460 ?_
      intro v51
      refine x_aload_nR (pc := 461) (a := x0) 0 rfl rfl dL_law_461 ?_
      refine x_iload (pc := 462) 4 rfl dL_law_462 ?_
      refine x_iconst (pc := 464) (v := 3) (by decide) dL_law_464 ?_
      refine x_iadd (pc := 465) dL_law_465 ?_
      refine x_scrI (pc := 466) dL_law_466 ?_
      intro v52
      refine x_callV (pc := 467) (As := [.int v50, .int v51, .int v52]) (rest := [.int v49]) (lev' := 3) si_X0_60 (m_M_rank h48 x2 v50 v51 v52) (fun z e => grd1 e) rfl rfl (by decide) (cat4 (Nat.le_of_ble_eq_true rfl)) dL_law_467 (kI (fun v54 h53 => ?_)) xNo
      refine x_icmp_eq (pc := 470) 1946 (by decide) dL_law_470 ?_ ?_
      · refine x_iinc (pc := 1946) (v := (6 : Int32)) (lv' := [(4, .int (x4 + (6 : Int32))), (0, .ref x0), (1, .ref x1), (2, .ref x2), (3, .ref x3)]) 4 rfl (by decide) (by decide) rfl dL_law_1946 ?_
        refine x_goto (pc := 1949) 23 (by decide) dL_law_1949 ?_
        refine Sim.lv [1, 2, 3, 4, 0] rfl ?_
        exact hr23 h53 x0 x1 x2 x3 (x4 + (6 : Int32))
      · refine x_iconst (pc := 473) (v := 0) (by decide) dL_law_473 ?_
        exact x_zret (pc := 474) dL_law_474
    refine x_sw (pc := 40) (v := 7) 475 dL_law_40 rfl (by decide) (by decide) rfl (by decide) ?_ ?_
    · refine x_aload_nR (pc := 475) (a := x1) 1 rfl rfl dL_law_475 ?_
      refine x_aload_nR (pc := 476) (a := x0) 0 rfl rfl dL_law_476 ?_
      refine x_iload (pc := 477) 4 rfl dL_law_477 ?_
      refine x_iconst (pc := 479) (v := 1) (by decide) dL_law_479 ?_
      refine x_iadd (pc := 480) dL_law_480 ?_
      refine x_scrI (pc := 481) dL_law_481 ?_
      intro v55
      refine x_aload_nR (pc := 482) (a := x0) 0 rfl rfl dL_law_482 ?_
      refine x_iload (pc := 483) 4 rfl dL_law_483 ?_
      refine x_iconst (pc := 485) (v := 2) (by decide) dL_law_485 ?_
      refine x_iadd (pc := 486) dL_law_486 ?_
      refine x_scrI (pc := 487) dL_law_487 ?_
      intro v56
      refine x_aload_nR (pc := 488) (a := x0) 0 rfl rfl dL_law_488 ?_
      refine x_iload (pc := 489) 4 rfl dL_law_489 ?_
      refine x_iconst (pc := 491) (v := 3) (by decide) dL_law_491 ?_
      refine x_iadd (pc := 492) dL_law_492 ?_
      refine x_scrI (pc := 493) dL_law_493 ?_
      intro v57
      refine x_callV (pc := 494) (As := [.int v55, .int v56, .int v57]) (rest := []) (lev' := 115) si_X0_61 (m_B_select h x1 v55 v56 v57) (fun z e => grd1 e) rfl rfl (by decide) (cat4 (Nat.le_of_ble_eq_true rfl)) dL_law_494 (kI (fun v59 h58 => ?_)) xNo
      refine x_aload_nR (pc := 497) (a := x2) 2 rfl rfl dL_law_497 ?_
      refine x_aload_nR (pc := 498) (a := x0) 0 rfl rfl dL_law_498 ?_
      refine x_iload (pc := 499) 4 rfl dL_law_499 ?_
      refine x_iconst (pc := 501) (v := 1) (by decide) dL_law_501 ?_
      refine x_iadd (pc := 502) dL_law_502 ?_
      refine x_scrI (pc := 503) dL_law_503 ?_
      intro v60
      refine x_aload_nR (pc := 504) (a := x0) 0 rfl rfl dL_law_504 ?_
      refine x_iload (pc := 505) 4 rfl dL_law_505 ?_
      refine x_iconst (pc := 507) (v := 2) (by decide) dL_law_507 ?_
      refine x_iadd (pc := 508) dL_law_508 ?_
      refine x_scrI (pc := 509) dL_law_509 ?_
      intro v61
      refine x_aload_nR (pc := 510) (a := x0) 0 rfl rfl dL_law_510 ?_
      refine x_iload (pc := 511) 4 rfl dL_law_511 ?_
      refine x_iconst (pc := 513) (v := 3) (by decide) dL_law_513 ?_
      refine x_iadd (pc := 514) dL_law_514 ?_
      refine x_scrI (pc := 515) dL_law_515 ?_
      intro v62
      refine x_callV (pc := 516) (As := [.int v60, .int v61, .int v62]) (rest := [.int v59]) (lev' := 3) si_X0_64 (m_M_select h58 x2 v60 v61 v62) (fun z e => grd1 e) rfl rfl (by decide) (cat4 (Nat.le_of_ble_eq_true rfl)) dL_law_516 (kI (fun v64 h63 => ?_)) xNo
      refine x_icmp_eq (pc := 519) 1946 (by decide) dL_law_519 ?_ ?_
      · refine x_iinc (pc := 1946) (v := (6 : Int32)) (lv' := [(4, .int (x4 + (6 : Int32))), (0, .ref x0), (1, .ref x1), (2, .ref x2), (3, .ref x3)]) 4 rfl (by decide) (by decide) rfl dL_law_1946 ?_
        refine x_goto (pc := 1949) 23 (by decide) dL_law_1949 ?_
        refine Sim.lv [1, 2, 3, 4, 0] rfl ?_
        exact hr23 h63 x0 x1 x2 x3 (x4 + (6 : Int32))
      · refine x_iconst (pc := 522) (v := 0) (by decide) dL_law_522 ?_
        exact x_zret (pc := 523) dL_law_523
    refine x_sw (pc := 40) (v := 8) 524 dL_law_40 rfl (by decide) (by decide) rfl (by decide) ?_ ?_
    · refine x_aload_nR (pc := 524) (a := x1) 1 rfl rfl dL_law_524 ?_
      refine x_aload_nR (pc := 525) (a := x0) 0 rfl rfl dL_law_525 ?_
      refine x_iload (pc := 526) 4 rfl dL_law_526 ?_
      refine x_iconst (pc := 528) (v := 1) (by decide) dL_law_528 ?_
      refine x_iadd (pc := 529) dL_law_529 ?_
      refine x_scrI (pc := 530) dL_law_530 ?_
      intro v65
      refine x_aload_nR (pc := 531) (a := x0) 0 rfl rfl dL_law_531 ?_
      refine x_iload (pc := 532) 4 rfl dL_law_532 ?_
      refine x_iconst (pc := 534) (v := 2) (by decide) dL_law_534 ?_
      refine x_iadd (pc := 535) dL_law_535 ?_
      refine x_scrI (pc := 536) dL_law_536 ?_
      intro v66
      refine x_aload_nR (pc := 537) (a := x0) 0 rfl rfl dL_law_537 ?_
      refine x_iload (pc := 538) 4 rfl dL_law_538 ?_
      refine x_iconst (pc := 540) (v := 3) (by decide) dL_law_540 ?_
      refine x_iadd (pc := 541) dL_law_541 ?_
      refine x_scrI (pc := 542) dL_law_542 ?_
      intro v67
      refine x_callV (pc := 543) (As := [.int v65, .int v66, .int v67]) (rest := []) (lev' := 115) si_X0_65 (m_B_find h x1 v65 v66 v67) (fun z e => grd1 e) rfl rfl (by decide) (cat4 (Nat.le_of_ble_eq_true rfl)) dL_law_543 (kI (fun v69 h68 => ?_)) xNo
      refine x_aload_nR (pc := 546) (a := x2) 2 rfl rfl dL_law_546 ?_
      refine x_aload_nR (pc := 547) (a := x0) 0 rfl rfl dL_law_547 ?_
      refine x_iload (pc := 548) 4 rfl dL_law_548 ?_
      refine x_iconst (pc := 550) (v := 1) (by decide) dL_law_550 ?_
      refine x_iadd (pc := 551) dL_law_551 ?_
      refine x_scrI (pc := 552) dL_law_552 ?_
      intro v70
      refine x_aload_nR (pc := 553) (a := x0) 0 rfl rfl dL_law_553 ?_
      refine x_iload (pc := 554) 4 rfl dL_law_554 ?_
      refine x_iconst (pc := 556) (v := 2) (by decide) dL_law_556 ?_
      refine x_iadd (pc := 557) dL_law_557 ?_
      refine x_scrI (pc := 558) dL_law_558 ?_
      intro v71
      refine x_aload_nR (pc := 559) (a := x0) 0 rfl rfl dL_law_559 ?_
      refine x_iload (pc := 560) 4 rfl dL_law_560 ?_
      refine x_iconst (pc := 562) (v := 3) (by decide) dL_law_562 ?_
      refine x_iadd (pc := 563) dL_law_563 ?_
      refine x_scrI (pc := 564) dL_law_564 ?_
      intro v72
      refine x_callV (pc := 565) (As := [.int v70, .int v71, .int v72]) (rest := [.int v69]) (lev' := 3) si_X0_68 (m_M_find h68 x2 v70 v71 v72) (fun z e => grd1 e) rfl rfl (by decide) (cat4 (Nat.le_of_ble_eq_true rfl)) dL_law_565 (kI (fun v74 h73 => ?_)) xNo
      refine x_icmp_eq (pc := 568) 1946 (by decide) dL_law_568 ?_ ?_
      · refine x_iinc (pc := 1946) (v := (6 : Int32)) (lv' := [(4, .int (x4 + (6 : Int32))), (0, .ref x0), (1, .ref x1), (2, .ref x2), (3, .ref x3)]) 4 rfl (by decide) (by decide) rfl dL_law_1946 ?_
        refine x_goto (pc := 1949) 23 (by decide) dL_law_1949 ?_
        refine Sim.lv [1, 2, 3, 4, 0] rfl ?_
        exact hr23 h73 x0 x1 x2 x3 (x4 + (6 : Int32))
      · refine x_iconst (pc := 571) (v := 0) (by decide) dL_law_571 ?_
        exact x_zret (pc := 572) dL_law_572
    refine x_sw (pc := 40) (v := 9) 573 dL_law_40 rfl (by decide) (by decide) rfl (by decide) ?_ ?_
    · refine x_aload_nR (pc := 573) (a := x1) 1 rfl rfl dL_law_573 ?_
      refine x_aload_nR (pc := 574) (a := x0) 0 rfl rfl dL_law_574 ?_
      refine x_iload (pc := 575) 4 rfl dL_law_575 ?_
      refine x_iconst (pc := 577) (v := 1) (by decide) dL_law_577 ?_
      refine x_iadd (pc := 578) dL_law_578 ?_
      refine x_scrI (pc := 579) dL_law_579 ?_
      intro v75
      refine x_callV (pc := 580) (As := [.int v75]) (rest := []) (lev' := 116) si_X0_69 (m_B_runs h x1 v75) (fun z e => grd1 e) rfl rfl (by decide) (cat4 (Nat.le_of_ble_eq_true rfl)) dL_law_580 (kI (fun v77 h76 => ?_)) xNo
      refine x_aload_nR (pc := 583) (a := x2) 2 rfl rfl dL_law_583 ?_
      refine x_aload_nR (pc := 584) (a := x0) 0 rfl rfl dL_law_584 ?_
      refine x_iload (pc := 585) 4 rfl dL_law_585 ?_
      refine x_iconst (pc := 587) (v := 1) (by decide) dL_law_587 ?_
      refine x_iadd (pc := 588) dL_law_588 ?_
      refine x_scrI (pc := 589) dL_law_589 ?_
      intro v78
      refine x_callV (pc := 590) (As := [.int v78]) (rest := [.int v77]) (lev' := 3) si_X0_72 (m_M_runs h76 x2 v78) (fun z e => grd1 e) rfl rfl (by decide) (cat4 (Nat.le_of_ble_eq_true rfl)) dL_law_590 (kI (fun v80 h79 => ?_)) xNo
      refine x_icmp_eq (pc := 593) 1946 (by decide) dL_law_593 ?_ ?_
      · refine x_iinc (pc := 1946) (v := (6 : Int32)) (lv' := [(4, .int (x4 + (6 : Int32))), (0, .ref x0), (1, .ref x1), (2, .ref x2), (3, .ref x3)]) 4 rfl (by decide) (by decide) rfl dL_law_1946 ?_
        refine x_goto (pc := 1949) 23 (by decide) dL_law_1949 ?_
        refine Sim.lv [1, 2, 3, 4, 0] rfl ?_
        exact hr23 h79 x0 x1 x2 x3 (x4 + (6 : Int32))
      · refine x_iconst (pc := 596) (v := 0) (by decide) dL_law_596 ?_
        exact x_zret (pc := 597) dL_law_597
    refine x_sw (pc := 40) (v := 10) 598 dL_law_40 rfl (by decide) (by decide) rfl (by decide) ?_ ?_
    · refine x_aload_nR (pc := 598) (a := x1) 1 rfl rfl dL_law_598 ?_
      refine x_aload_nR (pc := 599) (a := x0) 0 rfl rfl dL_law_599 ?_
      refine x_iload (pc := 600) 4 rfl dL_law_600 ?_
      refine x_iconst (pc := 602) (v := 1) (by decide) dL_law_602 ?_
      refine x_iadd (pc := 603) dL_law_603 ?_
      refine x_scrI (pc := 604) dL_law_604 ?_
      intro v81
      refine x_aload_nR (pc := 605) (a := x0) 0 rfl rfl dL_law_605 ?_
      refine x_iload (pc := 606) 4 rfl dL_law_606 ?_
      refine x_iconst (pc := 608) (v := 2) (by decide) dL_law_608 ?_
      refine x_iadd (pc := 609) dL_law_609 ?_
      refine x_scrI (pc := 610) dL_law_610 ?_
      intro v82
      refine x_callV (pc := 611) (As := [.int v81, .int v82]) (rest := []) (lev' := 115) si_X0_73 (m_B_longest h x1 v81 v82) (fun z e => grd1 e) rfl rfl (by decide) (cat4 (Nat.le_of_ble_eq_true rfl)) dL_law_611 (kI (fun v84 h83 => ?_)) xNo
      refine x_aload_nR (pc := 614) (a := x2) 2 rfl rfl dL_law_614 ?_
      refine x_aload_nR (pc := 615) (a := x0) 0 rfl rfl dL_law_615 ?_
      refine x_iload (pc := 616) 4 rfl dL_law_616 ?_
      refine x_iconst (pc := 618) (v := 1) (by decide) dL_law_618 ?_
      refine x_iadd (pc := 619) dL_law_619 ?_
      refine x_scrI (pc := 620) dL_law_620 ?_
      intro v85
      refine x_aload_nR (pc := 621) (a := x0) 0 rfl rfl dL_law_621 ?_
      refine x_iload (pc := 622) 4 rfl dL_law_622 ?_
      refine x_iconst (pc := 624) (v := 2) (by decide) dL_law_624 ?_
      refine x_iadd (pc := 625) dL_law_625 ?_
      refine x_scrI (pc := 626) dL_law_626 ?_
      intro v86
      refine x_callV (pc := 627) (As := [.int v85, .int v86]) (rest := [.int v84]) (lev' := 3) si_X0_76 (m_M_longest h83 x2 v85 v86) (fun z e => grd1 e) rfl rfl (by decide) (cat4 (Nat.le_of_ble_eq_true rfl)) dL_law_627 (kI (fun v88 h87 => ?_)) xNo
      refine x_icmp_eq (pc := 630) 1946 (by decide) dL_law_630 ?_ ?_
      · refine x_iinc (pc := 1946) (v := (6 : Int32)) (lv' := [(4, .int (x4 + (6 : Int32))), (0, .ref x0), (1, .ref x1), (2, .ref x2), (3, .ref x3)]) 4 rfl (by decide) (by decide) rfl dL_law_1946 ?_
        refine x_goto (pc := 1949) 23 (by decide) dL_law_1949 ?_
        refine Sim.lv [1, 2, 3, 4, 0] rfl ?_
        exact hr23 h87 x0 x1 x2 x3 (x4 + (6 : Int32))
      · refine x_iconst (pc := 633) (v := 0) (by decide) dL_law_633 ?_
        exact x_zret (pc := 634) dL_law_634
    refine x_sw (pc := 40) (v := 11) 635 dL_law_40 rfl (by decide) (by decide) rfl (by decide) ?_ ?_
    · refine x_aload_nR (pc := 635) (a := x1) 1 rfl rfl dL_law_635 ?_
      refine x_aload_nR (pc := 636) (a := x0) 0 rfl rfl dL_law_636 ?_
      refine x_iload (pc := 637) 4 rfl dL_law_637 ?_
      refine x_iconst (pc := 639) (v := 1) (by decide) dL_law_639 ?_
      refine x_iadd (pc := 640) dL_law_640 ?_
      refine x_scrI (pc := 641) dL_law_641 ?_
      intro v89
      refine x_aload_nR (pc := 642) (a := x0) 0 rfl rfl dL_law_642 ?_
      refine x_iload (pc := 643) 4 rfl dL_law_643 ?_
      refine x_iconst (pc := 645) (v := 2) (by decide) dL_law_645 ?_
      refine x_iadd (pc := 646) dL_law_646 ?_
      refine x_scrI (pc := 647) dL_law_647 ?_
      intro v90
      refine x_aload_nR (pc := 648) (a := x3) 3 rfl rfl dL_law_648 ?_
      refine x_callSX (pc := 649) (As := [.ref x1, .int v89, .int v90, .ref x3]) (rest := []) (lev' := 116) si_X0_77 (m_W_word h x1 v89 v90 x3) rfl rfl (by decide) (cat4 (Nat.le_of_ble_eq_true rfl)) dL_law_649 (kI (fun v92 h91 => ?_)) xNo
      refine x_istore (pc := 652) (lv' := [(5, .int v92), (0, .ref x0), (1, .ref x1), (2, .ref x2), (3, .ref x3), (4, .int x4)]) (by decide) rfl dL_law_652 ?_
      refine x_aload_nR (pc := 654) (a := x2) 3 rfl rfl dL_law_654 ?_
      refine x_aload_nR (pc := 655) (a := x0) 1 rfl rfl dL_law_655 ?_
      refine x_iload (pc := 656) 5 rfl dL_law_656 ?_
      refine x_iconst (pc := 658) (v := 1) (by decide) dL_law_658 ?_
      refine x_iadd (pc := 659) dL_law_659 ?_
      refine x_scrI (pc := 660) dL_law_660 ?_
      intro v93
      refine x_aload_nR (pc := 661) (a := x0) 1 rfl rfl dL_law_661 ?_
      refine x_iload (pc := 662) 5 rfl dL_law_662 ?_
      refine x_iconst (pc := 664) (v := 2) (by decide) dL_law_664 ?_
      refine x_iadd (pc := 665) dL_law_665 ?_
      refine x_scrI (pc := 666) dL_law_666 ?_
      intro v94
      refine x_callV (pc := 667) (As := [.int v93, .int v94]) (rest := []) (lev' := 3) si_X0_82 (m_M_word h91 x2 v93 v94) (fun z e => grd1 e) rfl rfl (by decide) (cat4 (Nat.le_of_ble_eq_true rfl)) dL_law_667 (kI (fun v96 h95 => ?_)) xNo
      refine x_istore (pc := 670) (lv' := [(6, .int v96), (5, .int v92), (0, .ref x0), (1, .ref x1), (2, .ref x2), (3, .ref x3), (4, .int x4)]) (by decide) rfl dL_law_670 ?_
      refine x_aload_nR (pc := 672) (a := x2) 4 rfl rfl dL_law_672 ?_
      refine x_callV (pc := 673) (As := []) (rest := []) (lev' := 1) si_X0_83 (m_M_thrown h95 x2) (fun z e => grd1 e) rfl rfl (by decide) (cat4 (Nat.le_of_ble_eq_true rfl)) dL_law_673 (kI (fun v98 h97 => ?_)) xNo
      refine x_iload (pc := 676) 1 rfl dL_law_676 ?_
      refine x_icmp_eq (pc := 678) 683 (by decide) dL_law_678 ?_ ?_
      · refine x_iload (pc := 683) 1 rfl dL_law_683 ?_
        refine x_if_ne (pc := 685) 700 (by decide) dL_law_685 ?_ ?_
        · refine x_goto (pc := 700) 1946 (by decide) dL_law_700 ?_
          refine x_iinc (pc := 1946) (v := (6 : Int32)) (lv' := [(4, .int (x4 + (6 : Int32))), (6, .int v96), (5, .int v92), (0, .ref x0), (1, .ref x1), (2, .ref x2), (3, .ref x3)]) 6 rfl (by decide) (by decide) rfl dL_law_1946 ?_
          refine x_goto (pc := 1949) 23 (by decide) dL_law_1949 ?_
          refine Sim.lv [3, 4, 5, 6, 0] rfl ?_
          exact hr23 h97 x0 x1 x2 x3 (x4 + (6 : Int32))
        · refine x_aload_nR (pc := 688) (a := x3) 5 rfl rfl dL_law_688 ?_
          refine x_iconst (pc := 689) (v := 0) (by decide) dL_law_689 ?_
          refine x_lald (pc := 690) dL_law_690 ?_
          intro v99
          refine x_iload (pc := 691) 0 rfl dL_law_691 ?_
          refine x_i2l (pc := 693) dL_law_693 ?_
          refine x_lcmp (pc := 694) dL_law_694 ?_
          refine x_if_eq (pc := 695) 700 (by decide) dL_law_695 ?_ ?_
          · refine x_goto (pc := 700) 1946 (by decide) dL_law_700 ?_
            refine x_iinc (pc := 1946) (v := (6 : Int32)) (lv' := [(4, .int (x4 + (6 : Int32))), (6, .int v96), (5, .int v92), (0, .ref x0), (1, .ref x1), (2, .ref x2), (3, .ref x3)]) 6 rfl (by decide) (by decide) rfl dL_law_1946 ?_
            refine x_goto (pc := 1949) 23 (by decide) dL_law_1949 ?_
            refine Sim.lv [3, 4, 5, 6, 0] rfl ?_
            exact hr23 h97 x0 x1 x2 x3 (x4 + (6 : Int32))
          · refine x_iconst (pc := 698) (v := 0) (by decide) dL_law_698 ?_
            exact x_zret (pc := 699) dL_law_699
      · refine x_iconst (pc := 681) (v := 0) (by decide) dL_law_681 ?_
        exact x_zret (pc := 682) dL_law_682
    refine x_sw (pc := 40) (v := 12) 703 dL_law_40 rfl (by decide) (by decide) rfl (by decide) ?_ ?_
    · refine x_aload_nR (pc := 703) (a := x1) 1 rfl rfl dL_law_703 ?_
      refine x_aload_nR (pc := 704) (a := x0) 0 rfl rfl dL_law_704 ?_
      refine x_iload (pc := 705) 4 rfl dL_law_705 ?_
      refine x_iconst (pc := 707) (v := 1) (by decide) dL_law_707 ?_
      refine x_iadd (pc := 708) dL_law_708 ?_
      refine x_scrI (pc := 709) dL_law_709 ?_
      intro v100
      refine x_callV (pc := 710) (As := [.int v100]) (rest := []) (lev' := 115) si_X0_86 (m_B_leaves h x1 v100) (fun z e => grd1 e) rfl rfl (by decide) (cat4 (Nat.le_of_ble_eq_true rfl)) dL_law_710 (kI (fun v102 h101 => ?_)) xNo
      refine x_aload_nR (pc := 713) (a := x2) 2 rfl rfl dL_law_713 ?_
      refine x_aload_nR (pc := 714) (a := x0) 0 rfl rfl dL_law_714 ?_
      refine x_iload (pc := 715) 4 rfl dL_law_715 ?_
      refine x_iconst (pc := 717) (v := 1) (by decide) dL_law_717 ?_
      refine x_iadd (pc := 718) dL_law_718 ?_
      refine x_scrI (pc := 719) dL_law_719 ?_
      intro v103
      refine x_callV (pc := 720) (As := [.int v103]) (rest := [.int v102]) (lev' := 3) si_X0_89 (m_M_leaves h101 x2 v103) (fun z e => grd1 e) rfl rfl (by decide) (cat4 (Nat.le_of_ble_eq_true rfl)) dL_law_720 (kI (fun v105 h104 => ?_)) xNo
      refine x_icmp_eq (pc := 723) 1946 (by decide) dL_law_723 ?_ ?_
      · refine x_iinc (pc := 1946) (v := (6 : Int32)) (lv' := [(4, .int (x4 + (6 : Int32))), (0, .ref x0), (1, .ref x1), (2, .ref x2), (3, .ref x3)]) 4 rfl (by decide) (by decide) rfl dL_law_1946 ?_
        refine x_goto (pc := 1949) 23 (by decide) dL_law_1949 ?_
        refine Sim.lv [1, 2, 3, 4, 0] rfl ?_
        exact hr23 h104 x0 x1 x2 x3 (x4 + (6 : Int32))
      · refine x_iconst (pc := 726) (v := 0) (by decide) dL_law_726 ?_
        exact x_zret (pc := 727) dL_law_727
    refine x_sw (pc := 40) (v := 13) 728 dL_law_40 rfl (by decide) (by decide) rfl (by decide) ?_ ?_
    · refine x_aload_nR (pc := 728) (a := x1) 1 rfl rfl dL_law_728 ?_
      refine x_aload_nR (pc := 729) (a := x0) 0 rfl rfl dL_law_729 ?_
      refine x_iload (pc := 730) 4 rfl dL_law_730 ?_
      refine x_iconst (pc := 732) (v := 1) (by decide) dL_law_732 ?_
      refine x_iadd (pc := 733) dL_law_733 ?_
      refine x_scrI (pc := 734) dL_law_734 ?_
      intro v106
      refine x_aload_nR (pc := 735) (a := x0) 0 rfl rfl dL_law_735 ?_
      refine x_iload (pc := 736) 4 rfl dL_law_736 ?_
      refine x_iconst (pc := 738) (v := 2) (by decide) dL_law_738 ?_
      refine x_iadd (pc := 739) dL_law_739 ?_
      refine x_scrI (pc := 740) dL_law_740 ?_
      intro v107
      refine x_aload_nR (pc := 741) (a := x0) 0 rfl rfl dL_law_741 ?_
      refine x_iload (pc := 742) 4 rfl dL_law_742 ?_
      refine x_iconst (pc := 744) (v := 3) (by decide) dL_law_744 ?_
      refine x_iadd (pc := 745) dL_law_745 ?_
      refine x_scrI (pc := 746) dL_law_746 ?_
      intro v108
      refine x_callV (pc := 747) (As := [.int v106, .int v107, .int v108]) (rest := []) (lev' := 115) si_X0_90 (m_B_leaf h x1 v106 v107 v108) (fun z e => grd1 e) rfl rfl (by decide) (cat4 (Nat.le_of_ble_eq_true rfl)) dL_law_747 (kI (fun v110 h109 => ?_)) xNo
      refine x_aload_nR (pc := 750) (a := x2) 2 rfl rfl dL_law_750 ?_
      refine x_aload_nR (pc := 751) (a := x0) 0 rfl rfl dL_law_751 ?_
      refine x_iload (pc := 752) 4 rfl dL_law_752 ?_
      refine x_iconst (pc := 754) (v := 1) (by decide) dL_law_754 ?_
      refine x_iadd (pc := 755) dL_law_755 ?_
      refine x_scrI (pc := 756) dL_law_756 ?_
      intro v111
      refine x_aload_nR (pc := 757) (a := x0) 0 rfl rfl dL_law_757 ?_
      refine x_iload (pc := 758) 4 rfl dL_law_758 ?_
      refine x_iconst (pc := 760) (v := 2) (by decide) dL_law_760 ?_
      refine x_iadd (pc := 761) dL_law_761 ?_
      refine x_scrI (pc := 762) dL_law_762 ?_
      intro v112
      refine x_aload_nR (pc := 763) (a := x0) 0 rfl rfl dL_law_763 ?_
      refine x_iload (pc := 764) 4 rfl dL_law_764 ?_
      refine x_iconst (pc := 766) (v := 3) (by decide) dL_law_766 ?_
      refine x_iadd (pc := 767) dL_law_767 ?_
      refine x_scrI (pc := 768) dL_law_768 ?_
      intro v113
      refine x_callV (pc := 769) (As := [.int v111, .int v112, .int v113]) (rest := [.int v110]) (lev' := 3) si_X0_93 (m_M_leaf h109 x2 v111 v112 v113) (fun z e => grd1 e) rfl rfl (by decide) (cat4 (Nat.le_of_ble_eq_true rfl)) dL_law_769 (kI (fun v115 h114 => ?_)) xNo
      refine x_icmp_eq (pc := 772) 1946 (by decide) dL_law_772 ?_ ?_
      · refine x_iinc (pc := 1946) (v := (6 : Int32)) (lv' := [(4, .int (x4 + (6 : Int32))), (0, .ref x0), (1, .ref x1), (2, .ref x2), (3, .ref x3)]) 4 rfl (by decide) (by decide) rfl dL_law_1946 ?_
        refine x_goto (pc := 1949) 23 (by decide) dL_law_1949 ?_
        refine Sim.lv [1, 2, 3, 4, 0] rfl ?_
        exact hr23 h114 x0 x1 x2 x3 (x4 + (6 : Int32))
      · refine x_iconst (pc := 775) (v := 0) (by decide) dL_law_775 ?_
        exact x_zret (pc := 776) dL_law_776
    refine x_sw (pc := 40) (v := 14) 777 dL_law_40 rfl (by decide) (by decide) rfl (by decide) ?_ ?_
    · refine x_aload_nR (pc := 777) (a := x1) 1 rfl rfl dL_law_777 ?_
      refine x_aload_nR (pc := 778) (a := x0) 0 rfl rfl dL_law_778 ?_
      refine x_iload (pc := 779) 4 rfl dL_law_779 ?_
      refine x_iconst (pc := 781) (v := 1) (by decide) dL_law_781 ?_
      refine x_iadd (pc := 782) dL_law_782 ?_
      refine x_scrI (pc := 783) dL_law_783 ?_
      intro v116
      refine x_aload_nR (pc := 784) (a := x0) 0 rfl rfl dL_law_784 ?_
      refine x_iload (pc := 785) 4 rfl dL_law_785 ?_
      refine x_iconst (pc := 787) (v := 2) (by decide) dL_law_787 ?_
      refine x_iadd (pc := 788) dL_law_788 ?_
      refine x_scrI (pc := 789) dL_law_789 ?_
      intro v117
      refine x_callV (pc := 790) (As := [.int v116, .int v117]) (rest := []) (lev' := 115) si_X0_94 (m_B_tree h x1 v116 v117) (fun z e => grd1 e) rfl rfl (by decide) (cat4 (Nat.le_of_ble_eq_true rfl)) dL_law_790 (kI (fun v119 h118 => ?_)) xNo
      refine x_aload_nR (pc := 793) (a := x2) 2 rfl rfl dL_law_793 ?_
      refine x_aload_nR (pc := 794) (a := x0) 0 rfl rfl dL_law_794 ?_
      refine x_iload (pc := 795) 4 rfl dL_law_795 ?_
      refine x_iconst (pc := 797) (v := 1) (by decide) dL_law_797 ?_
      refine x_iadd (pc := 798) dL_law_798 ?_
      refine x_scrI (pc := 799) dL_law_799 ?_
      intro v120
      refine x_aload_nR (pc := 800) (a := x0) 0 rfl rfl dL_law_800 ?_
      refine x_iload (pc := 801) 4 rfl dL_law_801 ?_
      refine x_iconst (pc := 803) (v := 2) (by decide) dL_law_803 ?_
      refine x_iadd (pc := 804) dL_law_804 ?_
      refine x_scrI (pc := 805) dL_law_805 ?_
      intro v121
      refine x_callV (pc := 806) (As := [.int v120, .int v121]) (rest := [.int v119]) (lev' := 14) si_X0_97 (m_M_tree h118 x2 v120 v121) (fun z e => grd1 e) rfl rfl (by decide) (cat4 (Nat.le_of_ble_eq_true rfl)) dL_law_806 (kI (fun v123 h122 => ?_)) xNo
      refine x_icmp_eq (pc := 809) 1946 (by decide) dL_law_809 ?_ ?_
      · refine x_iinc (pc := 1946) (v := (6 : Int32)) (lv' := [(4, .int (x4 + (6 : Int32))), (0, .ref x0), (1, .ref x1), (2, .ref x2), (3, .ref x3)]) 4 rfl (by decide) (by decide) rfl dL_law_1946 ?_
        refine x_goto (pc := 1949) 23 (by decide) dL_law_1949 ?_
        refine Sim.lv [1, 2, 3, 4, 0] rfl ?_
        exact hr23 h122 x0 x1 x2 x3 (x4 + (6 : Int32))
      · refine x_iconst (pc := 812) (v := 0) (by decide) dL_law_812 ?_
        exact x_zret (pc := 813) dL_law_813
    refine x_sw (pc := 40) (v := 15) 814 dL_law_40 rfl (by decide) (by decide) rfl (by decide) ?_ ?_
    · refine x_aload_nR (pc := 814) (a := x1) 1 rfl rfl dL_law_814 ?_
      refine x_aload_nR (pc := 815) (a := x0) 0 rfl rfl dL_law_815 ?_
      refine x_iload (pc := 816) 4 rfl dL_law_816 ?_
      refine x_iconst (pc := 818) (v := 1) (by decide) dL_law_818 ?_
      refine x_iadd (pc := 819) dL_law_819 ?_
      refine x_scrI (pc := 820) dL_law_820 ?_
      intro v124
      refine x_aload_nR (pc := 821) (a := x0) 0 rfl rfl dL_law_821 ?_
      refine x_iload (pc := 822) 4 rfl dL_law_822 ?_
      refine x_iconst (pc := 824) (v := 2) (by decide) dL_law_824 ?_
      refine x_iadd (pc := 825) dL_law_825 ?_
      refine x_scrI (pc := 826) dL_law_826 ?_
      intro v125
      refine x_aload_nR (pc := 827) (a := x0) 0 rfl rfl dL_law_827 ?_
      refine x_iload (pc := 828) 4 rfl dL_law_828 ?_
      refine x_iconst (pc := 830) (v := 3) (by decide) dL_law_830 ?_
      refine x_iadd (pc := 831) dL_law_831 ?_
      refine x_scrI (pc := 832) dL_law_832 ?_
      intro v126
      refine x_aload_nR (pc := 833) (a := x3) 3 rfl rfl dL_law_833 ?_
      refine x_callSX (pc := 834) (As := [.ref x1, .int v124, .int v125, .int v126, .ref x3]) (rest := []) (lev' := 116) si_X0_98 (m_W_dense h x1 v124 v125 v126 x3) rfl rfl (by decide) (cat4 (Nat.le_of_ble_eq_true rfl)) dL_law_834 (kI (fun v128 h127 => ?_)) xNo
      refine x_istore (pc := 837) (lv' := [(5, .int v128), (0, .ref x0), (1, .ref x1), (2, .ref x2), (3, .ref x3), (4, .int x4)]) (by decide) rfl dL_law_837 ?_
      refine x_aload_nR (pc := 839) (a := x2) 3 rfl rfl dL_law_839 ?_
      refine x_aload_nR (pc := 840) (a := x0) 1 rfl rfl dL_law_840 ?_
      refine x_iload (pc := 841) 5 rfl dL_law_841 ?_
      refine x_iconst (pc := 843) (v := 1) (by decide) dL_law_843 ?_
      refine x_iadd (pc := 844) dL_law_844 ?_
      refine x_scrI (pc := 845) dL_law_845 ?_
      intro v129
      refine x_aload_nR (pc := 846) (a := x0) 1 rfl rfl dL_law_846 ?_
      refine x_iload (pc := 847) 5 rfl dL_law_847 ?_
      refine x_iconst (pc := 849) (v := 2) (by decide) dL_law_849 ?_
      refine x_iadd (pc := 850) dL_law_850 ?_
      refine x_scrI (pc := 851) dL_law_851 ?_
      intro v130
      refine x_aload_nR (pc := 852) (a := x0) 1 rfl rfl dL_law_852 ?_
      refine x_iload (pc := 853) 5 rfl dL_law_853 ?_
      refine x_iconst (pc := 855) (v := 3) (by decide) dL_law_855 ?_
      refine x_iadd (pc := 856) dL_law_856 ?_
      refine x_scrI (pc := 857) dL_law_857 ?_
      intro v131
      refine x_callV (pc := 858) (As := [.int v129, .int v130, .int v131]) (rest := []) (lev' := 3) si_X0_101 (m_M_dense h127 x2 v129 v130 v131) (fun z e => grd1 e) rfl rfl (by decide) (cat4 (Nat.le_of_ble_eq_true rfl)) dL_law_858 (kI (fun v133 h132 => ?_)) xNo
      refine x_istore (pc := 861) (lv' := [(6, .int v133), (5, .int v128), (0, .ref x0), (1, .ref x1), (2, .ref x2), (3, .ref x3), (4, .int x4)]) (by decide) rfl dL_law_861 ?_
      refine x_aload_nR (pc := 863) (a := x2) 4 rfl rfl dL_law_863 ?_
      refine x_callV (pc := 864) (As := []) (rest := []) (lev' := 1) si_X0_83 (m_M_thrown h132 x2) (fun z e => grd1 e) rfl rfl (by decide) (cat4 (Nat.le_of_ble_eq_true rfl)) dL_law_864 (kI (fun v135 h134 => ?_)) xNo
      refine x_iload (pc := 867) 1 rfl dL_law_867 ?_
      refine x_icmp_eq (pc := 869) 874 (by decide) dL_law_869 ?_ ?_
      · refine x_iload (pc := 874) 1 rfl dL_law_874 ?_
        refine x_if_ne (pc := 876) 891 (by decide) dL_law_876 ?_ ?_
        · refine x_goto (pc := 891) 1946 (by decide) dL_law_891 ?_
          refine x_iinc (pc := 1946) (v := (6 : Int32)) (lv' := [(4, .int (x4 + (6 : Int32))), (6, .int v133), (5, .int v128), (0, .ref x0), (1, .ref x1), (2, .ref x2), (3, .ref x3)]) 6 rfl (by decide) (by decide) rfl dL_law_1946 ?_
          refine x_goto (pc := 1949) 23 (by decide) dL_law_1949 ?_
          refine Sim.lv [3, 4, 5, 6, 0] rfl ?_
          exact hr23 h134 x0 x1 x2 x3 (x4 + (6 : Int32))
        · refine x_aload_nR (pc := 879) (a := x3) 5 rfl rfl dL_law_879 ?_
          refine x_iconst (pc := 880) (v := 0) (by decide) dL_law_880 ?_
          refine x_lald (pc := 881) dL_law_881 ?_
          intro v136
          refine x_iload (pc := 882) 0 rfl dL_law_882 ?_
          refine x_i2l (pc := 884) dL_law_884 ?_
          refine x_lcmp (pc := 885) dL_law_885 ?_
          refine x_if_eq (pc := 886) 891 (by decide) dL_law_886 ?_ ?_
          · refine x_goto (pc := 891) 1946 (by decide) dL_law_891 ?_
            refine x_iinc (pc := 1946) (v := (6 : Int32)) (lv' := [(4, .int (x4 + (6 : Int32))), (6, .int v133), (5, .int v128), (0, .ref x0), (1, .ref x1), (2, .ref x2), (3, .ref x3)]) 6 rfl (by decide) (by decide) rfl dL_law_1946 ?_
            refine x_goto (pc := 1949) 23 (by decide) dL_law_1949 ?_
            refine Sim.lv [3, 4, 5, 6, 0] rfl ?_
            exact hr23 h134 x0 x1 x2 x3 (x4 + (6 : Int32))
          · refine x_iconst (pc := 889) (v := 0) (by decide) dL_law_889 ?_
            exact x_zret (pc := 890) dL_law_890
      · refine x_iconst (pc := 872) (v := 0) (by decide) dL_law_872 ?_
        exact x_zret (pc := 873) dL_law_873
    refine x_sw (pc := 40) (v := 16) 894 dL_law_40 rfl (by decide) (by decide) rfl (by decide) ?_ ?_
    · refine x_aload_nR (pc := 894) (a := x1) 1 rfl rfl dL_law_894 ?_
      refine x_aload_nR (pc := 895) (a := x0) 0 rfl rfl dL_law_895 ?_
      refine x_iload (pc := 896) 4 rfl dL_law_896 ?_
      refine x_iconst (pc := 898) (v := 1) (by decide) dL_law_898 ?_
      refine x_iadd (pc := 899) dL_law_899 ?_
      refine x_scrI (pc := 900) dL_law_900 ?_
      intro v137
      refine x_aload_nR (pc := 901) (a := x3) 3 rfl rfl dL_law_901 ?_
      refine x_callSX (pc := 902) (As := [.ref x1, .int v137, .ref x3]) (rest := []) (lev' := 116) si_X0_102 (m_W_load h x1 v137 x3) rfl rfl (by decide) (cat4 (Nat.le_of_ble_eq_true rfl)) dL_law_902 (kI (fun v139 h138 => ?_)) xNo
      refine x_istore (pc := 905) (lv' := [(5, .int v139), (0, .ref x0), (1, .ref x1), (2, .ref x2), (3, .ref x3), (4, .int x4)]) (by decide) rfl dL_law_905 ?_
      refine x_aload_nR (pc := 907) (a := x2) 3 rfl rfl dL_law_907 ?_
      refine x_aload_nR (pc := 908) (a := x0) 1 rfl rfl dL_law_908 ?_
      refine x_iload (pc := 909) 5 rfl dL_law_909 ?_
      refine x_iconst (pc := 911) (v := 1) (by decide) dL_law_911 ?_
      refine x_iadd (pc := 912) dL_law_912 ?_
      refine x_scrI (pc := 913) dL_law_913 ?_
      intro v140
      refine x_callV (pc := 914) (As := [.int v140]) (rest := []) (lev' := 3) si_X0_105 (m_M_load h138 x2 v140) (fun z e => grd1 e) rfl rfl (by decide) (cat4 (Nat.le_of_ble_eq_true rfl)) dL_law_914 (kI (fun v142 h141 => ?_)) xNo
      refine x_istore (pc := 917) (lv' := [(6, .int v142), (5, .int v139), (0, .ref x0), (1, .ref x1), (2, .ref x2), (3, .ref x3), (4, .int x4)]) (by decide) rfl dL_law_917 ?_
      refine x_aload_nR (pc := 919) (a := x2) 4 rfl rfl dL_law_919 ?_
      refine x_callV (pc := 920) (As := []) (rest := []) (lev' := 1) si_X0_83 (m_M_thrown h141 x2) (fun z e => grd1 e) rfl rfl (by decide) (cat4 (Nat.le_of_ble_eq_true rfl)) dL_law_920 (kI (fun v144 h143 => ?_)) xNo
      refine x_iload (pc := 923) 1 rfl dL_law_923 ?_
      refine x_icmp_eq (pc := 925) 930 (by decide) dL_law_925 ?_ ?_
      · refine x_iload (pc := 930) 1 rfl dL_law_930 ?_
        refine x_if_ne (pc := 932) 947 (by decide) dL_law_932 ?_ ?_
        · refine x_goto (pc := 947) 1946 (by decide) dL_law_947 ?_
          refine x_iinc (pc := 1946) (v := (6 : Int32)) (lv' := [(4, .int (x4 + (6 : Int32))), (6, .int v142), (5, .int v139), (0, .ref x0), (1, .ref x1), (2, .ref x2), (3, .ref x3)]) 6 rfl (by decide) (by decide) rfl dL_law_1946 ?_
          refine x_goto (pc := 1949) 23 (by decide) dL_law_1949 ?_
          refine Sim.lv [3, 4, 5, 6, 0] rfl ?_
          exact hr23 h143 x0 x1 x2 x3 (x4 + (6 : Int32))
        · refine x_aload_nR (pc := 935) (a := x3) 5 rfl rfl dL_law_935 ?_
          refine x_iconst (pc := 936) (v := 0) (by decide) dL_law_936 ?_
          refine x_lald (pc := 937) dL_law_937 ?_
          intro v145
          refine x_iload (pc := 938) 0 rfl dL_law_938 ?_
          refine x_i2l (pc := 940) dL_law_940 ?_
          refine x_lcmp (pc := 941) dL_law_941 ?_
          refine x_if_eq (pc := 942) 947 (by decide) dL_law_942 ?_ ?_
          · refine x_goto (pc := 947) 1946 (by decide) dL_law_947 ?_
            refine x_iinc (pc := 1946) (v := (6 : Int32)) (lv' := [(4, .int (x4 + (6 : Int32))), (6, .int v142), (5, .int v139), (0, .ref x0), (1, .ref x1), (2, .ref x2), (3, .ref x3)]) 6 rfl (by decide) (by decide) rfl dL_law_1946 ?_
            refine x_goto (pc := 1949) 23 (by decide) dL_law_1949 ?_
            refine Sim.lv [3, 4, 5, 6, 0] rfl ?_
            exact hr23 h143 x0 x1 x2 x3 (x4 + (6 : Int32))
          · refine x_iconst (pc := 945) (v := 0) (by decide) dL_law_945 ?_
            exact x_zret (pc := 946) dL_law_946
      · refine x_iconst (pc := 928) (v := 0) (by decide) dL_law_928 ?_
        exact x_zret (pc := 929) dL_law_929
    refine x_sw (pc := 40) (v := 17) 950 dL_law_40 rfl (by decide) (by decide) rfl (by decide) ?_ ?_
    · refine x_aload_nR (pc := 950) (a := x1) 1 rfl rfl dL_law_950 ?_
      refine x_aload_nR (pc := 951) (a := x0) 0 rfl rfl dL_law_951 ?_
      refine x_iload (pc := 952) 4 rfl dL_law_952 ?_
      refine x_iconst (pc := 954) (v := 1) (by decide) dL_law_954 ?_
      refine x_iadd (pc := 955) dL_law_955 ?_
      refine x_scrI (pc := 956) dL_law_956 ?_
      intro v146
      refine x_aload_nR (pc := 957) (a := x0) 0 rfl rfl dL_law_957 ?_
      refine x_iload (pc := 958) 4 rfl dL_law_958 ?_
      refine x_iconst (pc := 960) (v := 2) (by decide) dL_law_960 ?_
      refine x_iadd (pc := 961) dL_law_961 ?_
      refine x_scrI (pc := 962) dL_law_962 ?_
      intro v147
      refine x_aload_nR (pc := 963) (a := x3) 3 rfl rfl dL_law_963 ?_
      refine x_callSX (pc := 964) (As := [.ref x1, .int v146, .int v147, .ref x3]) (rest := []) (lev' := 116) si_X0_106 (m_W_centre h x1 v146 v147 x3) rfl rfl (by decide) (cat4 (Nat.le_of_ble_eq_true rfl)) dL_law_964 (kI (fun v149 h148 => ?_)) xNo
      refine x_istore (pc := 967) (lv' := [(5, .int v149), (0, .ref x0), (1, .ref x1), (2, .ref x2), (3, .ref x3), (4, .int x4)]) (by decide) rfl dL_law_967 ?_
      refine x_aload_nR (pc := 969) (a := x2) 3 rfl rfl dL_law_969 ?_
      refine x_aload_nR (pc := 970) (a := x0) 1 rfl rfl dL_law_970 ?_
      refine x_iload (pc := 971) 5 rfl dL_law_971 ?_
      refine x_iconst (pc := 973) (v := 1) (by decide) dL_law_973 ?_
      refine x_iadd (pc := 974) dL_law_974 ?_
      refine x_scrI (pc := 975) dL_law_975 ?_
      intro v150
      refine x_aload_nR (pc := 976) (a := x0) 1 rfl rfl dL_law_976 ?_
      refine x_iload (pc := 977) 5 rfl dL_law_977 ?_
      refine x_iconst (pc := 979) (v := 2) (by decide) dL_law_979 ?_
      refine x_iadd (pc := 980) dL_law_980 ?_
      refine x_scrI (pc := 981) dL_law_981 ?_
      intro v151
      refine x_callV (pc := 982) (As := [.int v150, .int v151]) (rest := []) (lev' := 3) si_X0_108 (m_M_centre h148 x2 v150 v151) (fun z e => grd1 e) rfl rfl (by decide) (cat4 (Nat.le_of_ble_eq_true rfl)) dL_law_982 (kI (fun v153 h152 => ?_)) xNo
      refine x_istore (pc := 985) (lv' := [(6, .int v153), (5, .int v149), (0, .ref x0), (1, .ref x1), (2, .ref x2), (3, .ref x3), (4, .int x4)]) (by decide) rfl dL_law_985 ?_
      refine x_aload_nR (pc := 987) (a := x2) 4 rfl rfl dL_law_987 ?_
      refine x_callV (pc := 988) (As := []) (rest := []) (lev' := 1) si_X0_83 (m_M_thrown h152 x2) (fun z e => grd1 e) rfl rfl (by decide) (cat4 (Nat.le_of_ble_eq_true rfl)) dL_law_988 (kI (fun v155 h154 => ?_)) xNo
      refine x_iload (pc := 991) 1 rfl dL_law_991 ?_
      refine x_icmp_eq (pc := 993) 998 (by decide) dL_law_993 ?_ ?_
      · refine x_iload (pc := 998) 1 rfl dL_law_998 ?_
        refine x_if_ne (pc := 1000) 1015 (by decide) dL_law_1000 ?_ ?_
        · refine x_goto (pc := 1015) 1946 (by decide) dL_law_1015 ?_
          refine x_iinc (pc := 1946) (v := (6 : Int32)) (lv' := [(4, .int (x4 + (6 : Int32))), (6, .int v153), (5, .int v149), (0, .ref x0), (1, .ref x1), (2, .ref x2), (3, .ref x3)]) 6 rfl (by decide) (by decide) rfl dL_law_1946 ?_
          refine x_goto (pc := 1949) 23 (by decide) dL_law_1949 ?_
          refine Sim.lv [3, 4, 5, 6, 0] rfl ?_
          exact hr23 h154 x0 x1 x2 x3 (x4 + (6 : Int32))
        · refine x_aload_nR (pc := 1003) (a := x3) 5 rfl rfl dL_law_1003 ?_
          refine x_iconst (pc := 1004) (v := 0) (by decide) dL_law_1004 ?_
          refine x_lald (pc := 1005) dL_law_1005 ?_
          intro v156
          refine x_iload (pc := 1006) 0 rfl dL_law_1006 ?_
          refine x_i2l (pc := 1008) dL_law_1008 ?_
          refine x_lcmp (pc := 1009) dL_law_1009 ?_
          refine x_if_eq (pc := 1010) 1015 (by decide) dL_law_1010 ?_ ?_
          · refine x_goto (pc := 1015) 1946 (by decide) dL_law_1015 ?_
            refine x_iinc (pc := 1946) (v := (6 : Int32)) (lv' := [(4, .int (x4 + (6 : Int32))), (6, .int v153), (5, .int v149), (0, .ref x0), (1, .ref x1), (2, .ref x2), (3, .ref x3)]) 6 rfl (by decide) (by decide) rfl dL_law_1946 ?_
            refine x_goto (pc := 1949) 23 (by decide) dL_law_1949 ?_
            refine Sim.lv [3, 4, 5, 6, 0] rfl ?_
            exact hr23 h154 x0 x1 x2 x3 (x4 + (6 : Int32))
          · refine x_iconst (pc := 1013) (v := 0) (by decide) dL_law_1013 ?_
            exact x_zret (pc := 1014) dL_law_1014
      · refine x_iconst (pc := 996) (v := 0) (by decide) dL_law_996 ?_
        exact x_zret (pc := 997) dL_law_997
    refine x_sw (pc := 40) (v := 18) 1018 dL_law_40 rfl (by decide) (by decide) rfl (by decide) ?_ ?_
    · refine x_aload_nR (pc := 1018) (a := x1) 1 rfl rfl dL_law_1018 ?_
      refine x_aload_nR (pc := 1019) (a := x0) 0 rfl rfl dL_law_1019 ?_
      refine x_iload (pc := 1020) 4 rfl dL_law_1020 ?_
      refine x_iconst (pc := 1022) (v := 1) (by decide) dL_law_1022 ?_
      refine x_iadd (pc := 1023) dL_law_1023 ?_
      refine x_scrI (pc := 1024) dL_law_1024 ?_
      intro v157
      refine x_aload_nR (pc := 1025) (a := x0) 0 rfl rfl dL_law_1025 ?_
      refine x_iload (pc := 1026) 4 rfl dL_law_1026 ?_
      refine x_iconst (pc := 1028) (v := 2) (by decide) dL_law_1028 ?_
      refine x_iadd (pc := 1029) dL_law_1029 ?_
      refine x_scrI (pc := 1030) dL_law_1030 ?_
      intro v158
      refine x_callV (pc := 1031) (As := [.int v157, .int v158]) (rest := []) (lev' := 115) si_X0_109 (m_B_apart h x1 v157 v158) (fun z e => grd1 e) rfl rfl (by decide) (cat4 (Nat.le_of_ble_eq_true rfl)) dL_law_1031 (kI (fun v160 h159 => ?_)) xNo
      refine x_aload_nR (pc := 1034) (a := x2) 2 rfl rfl dL_law_1034 ?_
      refine x_aload_nR (pc := 1035) (a := x0) 0 rfl rfl dL_law_1035 ?_
      refine x_iload (pc := 1036) 4 rfl dL_law_1036 ?_
      refine x_iconst (pc := 1038) (v := 1) (by decide) dL_law_1038 ?_
      refine x_iadd (pc := 1039) dL_law_1039 ?_
      refine x_scrI (pc := 1040) dL_law_1040 ?_
      intro v161
      refine x_aload_nR (pc := 1041) (a := x0) 0 rfl rfl dL_law_1041 ?_
      refine x_iload (pc := 1042) 4 rfl dL_law_1042 ?_
      refine x_iconst (pc := 1044) (v := 2) (by decide) dL_law_1044 ?_
      refine x_iadd (pc := 1045) dL_law_1045 ?_
      refine x_scrI (pc := 1046) dL_law_1046 ?_
      intro v162
      refine x_callV (pc := 1047) (As := [.int v161, .int v162]) (rest := [.int v160]) (lev' := 3) si_X0_112 (m_M_apart h159 x2 v161 v162) (fun z e => grd1 e) rfl rfl (by decide) (cat4 (Nat.le_of_ble_eq_true rfl)) dL_law_1047 (kI (fun v164 h163 => ?_)) xNo
      refine x_icmp_eq (pc := 1050) 1946 (by decide) dL_law_1050 ?_ ?_
      · refine x_iinc (pc := 1946) (v := (6 : Int32)) (lv' := [(4, .int (x4 + (6 : Int32))), (0, .ref x0), (1, .ref x1), (2, .ref x2), (3, .ref x3)]) 4 rfl (by decide) (by decide) rfl dL_law_1946 ?_
        refine x_goto (pc := 1949) 23 (by decide) dL_law_1949 ?_
        refine Sim.lv [1, 2, 3, 4, 0] rfl ?_
        exact hr23 h163 x0 x1 x2 x3 (x4 + (6 : Int32))
      · refine x_iconst (pc := 1053) (v := 0) (by decide) dL_law_1053 ?_
        exact x_zret (pc := 1054) dL_law_1054
    refine x_sw (pc := 40) (v := 19) 1055 dL_law_40 rfl (by decide) (by decide) rfl (by decide) ?_ ?_
    · refine x_aload_nR (pc := 1055) (a := x1) 1 rfl rfl dL_law_1055 ?_
      refine x_aload_nR (pc := 1056) (a := x0) 0 rfl rfl dL_law_1056 ?_
      refine x_iload (pc := 1057) 4 rfl dL_law_1057 ?_
      refine x_iconst (pc := 1059) (v := 1) (by decide) dL_law_1059 ?_
      refine x_iadd (pc := 1060) dL_law_1060 ?_
      refine x_scrI (pc := 1061) dL_law_1061 ?_
      intro v165
      refine x_aload_nR (pc := 1062) (a := x0) 0 rfl rfl dL_law_1062 ?_
      refine x_iload (pc := 1063) 4 rfl dL_law_1063 ?_
      refine x_iconst (pc := 1065) (v := 2) (by decide) dL_law_1065 ?_
      refine x_iadd (pc := 1066) dL_law_1066 ?_
      refine x_scrI (pc := 1067) dL_law_1067 ?_
      intro v166
      refine x_callV (pc := 1068) (As := [.int v165, .int v166]) (rest := []) (lev' := 116) si_X0_113 (m_B_differ h x1 v165 v166) (fun z e => grd1 e) rfl rfl (by decide) (cat4 (Nat.le_of_ble_eq_true rfl)) dL_law_1068 (kI (fun v168 h167 => ?_)) xNo
      refine x_aload_nR (pc := 1071) (a := x2) 2 rfl rfl dL_law_1071 ?_
      refine x_aload_nR (pc := 1072) (a := x0) 0 rfl rfl dL_law_1072 ?_
      refine x_iload (pc := 1073) 4 rfl dL_law_1073 ?_
      refine x_iconst (pc := 1075) (v := 1) (by decide) dL_law_1075 ?_
      refine x_iadd (pc := 1076) dL_law_1076 ?_
      refine x_scrI (pc := 1077) dL_law_1077 ?_
      intro v169
      refine x_aload_nR (pc := 1078) (a := x0) 0 rfl rfl dL_law_1078 ?_
      refine x_iload (pc := 1079) 4 rfl dL_law_1079 ?_
      refine x_iconst (pc := 1081) (v := 2) (by decide) dL_law_1081 ?_
      refine x_iadd (pc := 1082) dL_law_1082 ?_
      refine x_scrI (pc := 1083) dL_law_1083 ?_
      intro v170
      refine x_callV (pc := 1084) (As := [.int v169, .int v170]) (rest := [.int v168]) (lev' := 5) si_X0_116 (m_M_differ h167 x2 v169 v170) (fun z e => grd1 e) rfl rfl (by decide) (cat4 (Nat.le_of_ble_eq_true rfl)) dL_law_1084 (kI (fun v172 h171 => ?_)) xNo
      refine x_icmp_eq (pc := 1087) 1946 (by decide) dL_law_1087 ?_ ?_
      · refine x_iinc (pc := 1946) (v := (6 : Int32)) (lv' := [(4, .int (x4 + (6 : Int32))), (0, .ref x0), (1, .ref x1), (2, .ref x2), (3, .ref x3)]) 4 rfl (by decide) (by decide) rfl dL_law_1946 ?_
        refine x_goto (pc := 1949) 23 (by decide) dL_law_1949 ?_
        refine Sim.lv [1, 2, 3, 4, 0] rfl ?_
        exact hr23 h171 x0 x1 x2 x3 (x4 + (6 : Int32))
      · refine x_iconst (pc := 1090) (v := 0) (by decide) dL_law_1090 ?_
        exact x_zret (pc := 1091) dL_law_1091
    refine x_sw (pc := 40) (v := 20) 1092 dL_law_40 rfl (by decide) (by decide) rfl (by decide) ?_ ?_
    · refine x_aload_nR (pc := 1092) (a := x1) 1 rfl rfl dL_law_1092 ?_
      refine x_aload_nR (pc := 1093) (a := x0) 0 rfl rfl dL_law_1093 ?_
      refine x_iload (pc := 1094) 4 rfl dL_law_1094 ?_
      refine x_iconst (pc := 1096) (v := 1) (by decide) dL_law_1096 ?_
      refine x_iadd (pc := 1097) dL_law_1097 ?_
      refine x_scrI (pc := 1098) dL_law_1098 ?_
      intro v173
      refine x_callV (pc := 1099) (As := [.int v173]) (rest := []) (lev' := 115) si_X0_117 (m_B_seek h x1 v173) (fun z e => grd1 e) rfl rfl (by decide) (cat4 (Nat.le_of_ble_eq_true rfl)) dL_law_1099 (kI (fun v175 h174 => ?_)) xNo
      refine x_aload_nR (pc := 1102) (a := x2) 2 rfl rfl dL_law_1102 ?_
      refine x_aload_nR (pc := 1103) (a := x0) 0 rfl rfl dL_law_1103 ?_
      refine x_iload (pc := 1104) 4 rfl dL_law_1104 ?_
      refine x_iconst (pc := 1106) (v := 1) (by decide) dL_law_1106 ?_
      refine x_iadd (pc := 1107) dL_law_1107 ?_
      refine x_scrI (pc := 1108) dL_law_1108 ?_
      intro v176
      refine x_callV (pc := 1109) (As := [.int v176]) (rest := [.int v175]) (lev' := 3) si_X0_120 (m_M_seek h174 x2 v176) (fun z e => grd1 e) rfl rfl (by decide) (cat4 (Nat.le_of_ble_eq_true rfl)) dL_law_1109 (kI (fun v178 h177 => ?_)) xNo
      refine x_icmp_eq (pc := 1112) 1946 (by decide) dL_law_1112 ?_ ?_
      · refine x_iinc (pc := 1946) (v := (6 : Int32)) (lv' := [(4, .int (x4 + (6 : Int32))), (0, .ref x0), (1, .ref x1), (2, .ref x2), (3, .ref x3)]) 4 rfl (by decide) (by decide) rfl dL_law_1946 ?_
        refine x_goto (pc := 1949) 23 (by decide) dL_law_1949 ?_
        refine Sim.lv [1, 2, 3, 4, 0] rfl ?_
        exact hr23 h177 x0 x1 x2 x3 (x4 + (6 : Int32))
      · refine x_iconst (pc := 1115) (v := 0) (by decide) dL_law_1115 ?_
        exact x_zret (pc := 1116) dL_law_1116
    refine x_sw (pc := 40) (v := 21) 1117 dL_law_40 rfl (by decide) (by decide) rfl (by decide) ?_ ?_
    · refine x_aload_nR (pc := 1117) (a := x1) 1 rfl rfl dL_law_1117 ?_
      refine x_aload_nR (pc := 1118) (a := x0) 0 rfl rfl dL_law_1118 ?_
      refine x_iload (pc := 1119) 4 rfl dL_law_1119 ?_
      refine x_iconst (pc := 1121) (v := 1) (by decide) dL_law_1121 ?_
      refine x_iadd (pc := 1122) dL_law_1122 ?_
      refine x_scrI (pc := 1123) dL_law_1123 ?_
      intro v179
      refine x_callV (pc := 1124) (As := [.int v179]) (rest := []) (lev' := 2) si_X0_121 (m_B_seekAt h x1 v179) (fun z e => grd1 e) rfl rfl (by decide) (cat4 (Nat.le_of_ble_eq_true rfl)) dL_law_1124 (kI (fun v181 h180 => ?_)) xNo
      refine x_aload_nR (pc := 1127) (a := x2) 2 rfl rfl dL_law_1127 ?_
      refine x_aload_nR (pc := 1128) (a := x0) 0 rfl rfl dL_law_1128 ?_
      refine x_iload (pc := 1129) 4 rfl dL_law_1129 ?_
      refine x_iconst (pc := 1131) (v := 1) (by decide) dL_law_1131 ?_
      refine x_iadd (pc := 1132) dL_law_1132 ?_
      refine x_scrI (pc := 1133) dL_law_1133 ?_
      intro v182
      refine x_callV (pc := 1134) (As := [.int v182]) (rest := [.int v181]) (lev' := 2) si_X0_124 (m_M_seekAt h180 x2 v182) (fun z e => grd1 e) rfl rfl (by decide) (cat4 (Nat.le_of_ble_eq_true rfl)) dL_law_1134 (kI (fun v184 h183 => ?_)) xNo
      refine x_icmp_eq (pc := 1137) 1946 (by decide) dL_law_1137 ?_ ?_
      · refine x_iinc (pc := 1946) (v := (6 : Int32)) (lv' := [(4, .int (x4 + (6 : Int32))), (0, .ref x0), (1, .ref x1), (2, .ref x2), (3, .ref x3)]) 4 rfl (by decide) (by decide) rfl dL_law_1946 ?_
        refine x_goto (pc := 1949) 23 (by decide) dL_law_1949 ?_
        refine Sim.lv [1, 2, 3, 4, 0] rfl ?_
        exact hr23 h183 x0 x1 x2 x3 (x4 + (6 : Int32))
      · refine x_iconst (pc := 1140) (v := 0) (by decide) dL_law_1140 ?_
        exact x_zret (pc := 1141) dL_law_1141
    refine x_sw (pc := 40) (v := 22) 1142 dL_law_40 rfl (by decide) (by decide) rfl (by decide) ?_ ?_
    · refine x_aload_nR (pc := 1142) (a := x1) 1 rfl rfl dL_law_1142 ?_
      refine x_aload_nR (pc := 1143) (a := x0) 0 rfl rfl dL_law_1143 ?_
      refine x_iload (pc := 1144) 4 rfl dL_law_1144 ?_
      refine x_iconst (pc := 1146) (v := 1) (by decide) dL_law_1146 ?_
      refine x_iadd (pc := 1147) dL_law_1147 ?_
      refine x_scrI (pc := 1148) dL_law_1148 ?_
      intro v185
      refine x_aload_nR (pc := 1149) (a := x0) 0 rfl rfl dL_law_1149 ?_
      refine x_iload (pc := 1150) 4 rfl dL_law_1150 ?_
      refine x_iconst (pc := 1152) (v := 2) (by decide) dL_law_1152 ?_
      refine x_iadd (pc := 1153) dL_law_1153 ?_
      refine x_scrI (pc := 1154) dL_law_1154 ?_
      intro v186
      refine x_aload_nR (pc := 1155) (a := x0) 0 rfl rfl dL_law_1155 ?_
      refine x_iload (pc := 1156) 4 rfl dL_law_1156 ?_
      refine x_iconst (pc := 1158) (v := 3) (by decide) dL_law_1158 ?_
      refine x_iadd (pc := 1159) dL_law_1159 ?_
      refine x_scrI (pc := 1160) dL_law_1160 ?_
      intro v187
      refine x_callV (pc := 1161) (As := [.int v185, .int v186, .int v187]) (rest := []) (lev' := 25) si_X0_125 (m_B_put h x1 v185 v186 v187) (fun z e => grd1 e) rfl rfl (by decide) (cat4 (Nat.le_of_ble_eq_true rfl)) dL_law_1161 (kI (fun v189 h188 => ?_)) xNo
      refine x_aload_nR (pc := 1164) (a := x2) 2 rfl rfl dL_law_1164 ?_
      refine x_aload_nR (pc := 1165) (a := x0) 0 rfl rfl dL_law_1165 ?_
      refine x_iload (pc := 1166) 4 rfl dL_law_1166 ?_
      refine x_iconst (pc := 1168) (v := 1) (by decide) dL_law_1168 ?_
      refine x_iadd (pc := 1169) dL_law_1169 ?_
      refine x_scrI (pc := 1170) dL_law_1170 ?_
      intro v190
      refine x_aload_nR (pc := 1171) (a := x0) 0 rfl rfl dL_law_1171 ?_
      refine x_iload (pc := 1172) 4 rfl dL_law_1172 ?_
      refine x_iconst (pc := 1174) (v := 2) (by decide) dL_law_1174 ?_
      refine x_iadd (pc := 1175) dL_law_1175 ?_
      refine x_scrI (pc := 1176) dL_law_1176 ?_
      intro v191
      refine x_aload_nR (pc := 1177) (a := x0) 0 rfl rfl dL_law_1177 ?_
      refine x_iload (pc := 1178) 4 rfl dL_law_1178 ?_
      refine x_iconst (pc := 1180) (v := 3) (by decide) dL_law_1180 ?_
      refine x_iadd (pc := 1181) dL_law_1181 ?_
      refine x_scrI (pc := 1182) dL_law_1182 ?_
      intro v192
      refine x_callV (pc := 1183) (As := [.int v190, .int v191, .int v192]) (rest := [.int v189]) (lev' := 8) si_X0_128 (m_M_put h188 x2 v190 v191 v192) (fun z e => grd1 e) rfl rfl (by decide) (cat4 (Nat.le_of_ble_eq_true rfl)) dL_law_1183 (kI (fun v194 h193 => ?_)) xNo
      refine x_icmp_eq (pc := 1186) 1946 (by decide) dL_law_1186 ?_ ?_
      · refine x_iinc (pc := 1946) (v := (6 : Int32)) (lv' := [(4, .int (x4 + (6 : Int32))), (0, .ref x0), (1, .ref x1), (2, .ref x2), (3, .ref x3)]) 4 rfl (by decide) (by decide) rfl dL_law_1946 ?_
        refine x_goto (pc := 1949) 23 (by decide) dL_law_1949 ?_
        refine Sim.lv [1, 2, 3, 4, 0] rfl ?_
        exact hr23 h193 x0 x1 x2 x3 (x4 + (6 : Int32))
      · refine x_iconst (pc := 1189) (v := 0) (by decide) dL_law_1189 ?_
        exact x_zret (pc := 1190) dL_law_1190
    refine x_sw (pc := 40) (v := 23) 1191 dL_law_40 rfl (by decide) (by decide) rfl (by decide) ?_ ?_
    · refine x_aload_nR (pc := 1191) (a := x1) 1 rfl rfl dL_law_1191 ?_
      refine x_aload_nR (pc := 1192) (a := x0) 0 rfl rfl dL_law_1192 ?_
      refine x_iload (pc := 1193) 4 rfl dL_law_1193 ?_
      refine x_iconst (pc := 1195) (v := 1) (by decide) dL_law_1195 ?_
      refine x_iadd (pc := 1196) dL_law_1196 ?_
      refine x_scrI (pc := 1197) dL_law_1197 ?_
      intro v195
      refine x_aload_nR (pc := 1198) (a := x0) 0 rfl rfl dL_law_1198 ?_
      refine x_iload (pc := 1199) 4 rfl dL_law_1199 ?_
      refine x_iconst (pc := 1201) (v := 2) (by decide) dL_law_1201 ?_
      refine x_iadd (pc := 1202) dL_law_1202 ?_
      refine x_scrI (pc := 1203) dL_law_1203 ?_
      intro v196
      refine x_aload_nR (pc := 1204) (a := x0) 0 rfl rfl dL_law_1204 ?_
      refine x_iload (pc := 1205) 4 rfl dL_law_1205 ?_
      refine x_iconst (pc := 1207) (v := 3) (by decide) dL_law_1207 ?_
      refine x_iadd (pc := 1208) dL_law_1208 ?_
      refine x_scrI (pc := 1209) dL_law_1209 ?_
      intro v197
      refine x_callV (pc := 1210) (As := [.int v195, .int v196, .int v197]) (rest := []) (lev' := 25) si_X0_129 (m_B_set h x1 v195 v196 v197) (fun z e => grd1 e) rfl rfl (by decide) (cat4 (Nat.le_of_ble_eq_true rfl)) dL_law_1210 (kI (fun v199 h198 => ?_)) xNo
      refine x_aload_nR (pc := 1213) (a := x2) 2 rfl rfl dL_law_1213 ?_
      refine x_aload_nR (pc := 1214) (a := x0) 0 rfl rfl dL_law_1214 ?_
      refine x_iload (pc := 1215) 4 rfl dL_law_1215 ?_
      refine x_iconst (pc := 1217) (v := 1) (by decide) dL_law_1217 ?_
      refine x_iadd (pc := 1218) dL_law_1218 ?_
      refine x_scrI (pc := 1219) dL_law_1219 ?_
      intro v200
      refine x_aload_nR (pc := 1220) (a := x0) 0 rfl rfl dL_law_1220 ?_
      refine x_iload (pc := 1221) 4 rfl dL_law_1221 ?_
      refine x_iconst (pc := 1223) (v := 2) (by decide) dL_law_1223 ?_
      refine x_iadd (pc := 1224) dL_law_1224 ?_
      refine x_scrI (pc := 1225) dL_law_1225 ?_
      intro v201
      refine x_aload_nR (pc := 1226) (a := x0) 0 rfl rfl dL_law_1226 ?_
      refine x_iload (pc := 1227) 4 rfl dL_law_1227 ?_
      refine x_iconst (pc := 1229) (v := 3) (by decide) dL_law_1229 ?_
      refine x_iadd (pc := 1230) dL_law_1230 ?_
      refine x_scrI (pc := 1231) dL_law_1231 ?_
      intro v202
      refine x_callV (pc := 1232) (As := [.int v200, .int v201, .int v202]) (rest := [.int v199]) (lev' := 8) si_X0_132 (m_M_set h198 x2 v200 v201 v202) (fun z e => grd1 e) rfl rfl (by decide) (cat4 (Nat.le_of_ble_eq_true rfl)) dL_law_1232 (kI (fun v204 h203 => ?_)) xNo
      refine x_icmp_eq (pc := 1235) 1946 (by decide) dL_law_1235 ?_ ?_
      · refine x_iinc (pc := 1946) (v := (6 : Int32)) (lv' := [(4, .int (x4 + (6 : Int32))), (0, .ref x0), (1, .ref x1), (2, .ref x2), (3, .ref x3)]) 4 rfl (by decide) (by decide) rfl dL_law_1946 ?_
        refine x_goto (pc := 1949) 23 (by decide) dL_law_1949 ?_
        refine Sim.lv [1, 2, 3, 4, 0] rfl ?_
        exact hr23 h203 x0 x1 x2 x3 (x4 + (6 : Int32))
      · refine x_iconst (pc := 1238) (v := 0) (by decide) dL_law_1238 ?_
        exact x_zret (pc := 1239) dL_law_1239
    refine x_sw (pc := 40) (v := 24) 1240 dL_law_40 rfl (by decide) (by decide) rfl (by decide) ?_ ?_
    · refine x_aload_nR (pc := 1240) (a := x1) 1 rfl rfl dL_law_1240 ?_
      refine x_aload_nR (pc := 1241) (a := x0) 0 rfl rfl dL_law_1241 ?_
      refine x_iload (pc := 1242) 4 rfl dL_law_1242 ?_
      refine x_iconst (pc := 1244) (v := 1) (by decide) dL_law_1244 ?_
      refine x_iadd (pc := 1245) dL_law_1245 ?_
      refine x_scrI (pc := 1246) dL_law_1246 ?_
      intro v205
      refine x_aload_nR (pc := 1247) (a := x0) 0 rfl rfl dL_law_1247 ?_
      refine x_iload (pc := 1248) 4 rfl dL_law_1248 ?_
      refine x_iconst (pc := 1250) (v := 2) (by decide) dL_law_1250 ?_
      refine x_iadd (pc := 1251) dL_law_1251 ?_
      refine x_scrI (pc := 1252) dL_law_1252 ?_
      intro v206
      refine x_aload_nR (pc := 1253) (a := x0) 0 rfl rfl dL_law_1253 ?_
      refine x_iload (pc := 1254) 4 rfl dL_law_1254 ?_
      refine x_iconst (pc := 1256) (v := 3) (by decide) dL_law_1256 ?_
      refine x_iadd (pc := 1257) dL_law_1257 ?_
      refine x_scrI (pc := 1258) dL_law_1258 ?_
      intro v207
      refine x_callV (pc := 1259) (As := [.int v205, .int v206, .int v207]) (rest := []) (lev' := 25) si_X0_133 (m_B_cut h x1 v205 v206 v207) (fun z e => grd1 e) rfl rfl (by decide) (cat4 (Nat.le_of_ble_eq_true rfl)) dL_law_1259 (kI (fun v209 h208 => ?_)) xNo
      refine x_aload_nR (pc := 1262) (a := x2) 2 rfl rfl dL_law_1262 ?_
      refine x_aload_nR (pc := 1263) (a := x0) 0 rfl rfl dL_law_1263 ?_
      refine x_iload (pc := 1264) 4 rfl dL_law_1264 ?_
      refine x_iconst (pc := 1266) (v := 1) (by decide) dL_law_1266 ?_
      refine x_iadd (pc := 1267) dL_law_1267 ?_
      refine x_scrI (pc := 1268) dL_law_1268 ?_
      intro v210
      refine x_aload_nR (pc := 1269) (a := x0) 0 rfl rfl dL_law_1269 ?_
      refine x_iload (pc := 1270) 4 rfl dL_law_1270 ?_
      refine x_iconst (pc := 1272) (v := 2) (by decide) dL_law_1272 ?_
      refine x_iadd (pc := 1273) dL_law_1273 ?_
      refine x_scrI (pc := 1274) dL_law_1274 ?_
      intro v211
      refine x_aload_nR (pc := 1275) (a := x0) 0 rfl rfl dL_law_1275 ?_
      refine x_iload (pc := 1276) 4 rfl dL_law_1276 ?_
      refine x_iconst (pc := 1278) (v := 3) (by decide) dL_law_1278 ?_
      refine x_iadd (pc := 1279) dL_law_1279 ?_
      refine x_scrI (pc := 1280) dL_law_1280 ?_
      intro v212
      refine x_callV (pc := 1281) (As := [.int v210, .int v211, .int v212]) (rest := [.int v209]) (lev' := 8) si_X0_136 (m_M_cut h208 x2 v210 v211 v212) (fun z e => grd1 e) rfl rfl (by decide) (cat4 (Nat.le_of_ble_eq_true rfl)) dL_law_1281 (kI (fun v214 h213 => ?_)) xNo
      refine x_icmp_eq (pc := 1284) 1946 (by decide) dL_law_1284 ?_ ?_
      · refine x_iinc (pc := 1946) (v := (6 : Int32)) (lv' := [(4, .int (x4 + (6 : Int32))), (0, .ref x0), (1, .ref x1), (2, .ref x2), (3, .ref x3)]) 4 rfl (by decide) (by decide) rfl dL_law_1946 ?_
        refine x_goto (pc := 1949) 23 (by decide) dL_law_1949 ?_
        refine Sim.lv [1, 2, 3, 4, 0] rfl ?_
        exact hr23 h213 x0 x1 x2 x3 (x4 + (6 : Int32))
      · refine x_iconst (pc := 1287) (v := 0) (by decide) dL_law_1287 ?_
        exact x_zret (pc := 1288) dL_law_1288
    refine x_sw (pc := 40) (v := 25) 1289 dL_law_40 rfl (by decide) (by decide) rfl (by decide) ?_ ?_
    · refine x_aload_nR (pc := 1289) (a := x1) 1 rfl rfl dL_law_1289 ?_
      refine x_aload_nR (pc := 1290) (a := x0) 0 rfl rfl dL_law_1290 ?_
      refine x_iload (pc := 1291) 4 rfl dL_law_1291 ?_
      refine x_iconst (pc := 1293) (v := 1) (by decide) dL_law_1293 ?_
      refine x_iadd (pc := 1294) dL_law_1294 ?_
      refine x_scrI (pc := 1295) dL_law_1295 ?_
      intro v215
      refine x_aload_nR (pc := 1296) (a := x0) 0 rfl rfl dL_law_1296 ?_
      refine x_iload (pc := 1297) 4 rfl dL_law_1297 ?_
      refine x_iconst (pc := 1299) (v := 2) (by decide) dL_law_1299 ?_
      refine x_iadd (pc := 1300) dL_law_1300 ?_
      refine x_scrI (pc := 1301) dL_law_1301 ?_
      intro v216
      refine x_aload_nR (pc := 1302) (a := x0) 0 rfl rfl dL_law_1302 ?_
      refine x_iload (pc := 1303) 4 rfl dL_law_1303 ?_
      refine x_iconst (pc := 1305) (v := 3) (by decide) dL_law_1305 ?_
      refine x_iadd (pc := 1306) dL_law_1306 ?_
      refine x_scrI (pc := 1307) dL_law_1307 ?_
      intro v217
      refine x_callV (pc := 1308) (As := [.int v215, .int v216, .int v217]) (rest := []) (lev' := 25) si_X0_137 (m_B_turn h x1 v215 v216 v217) (fun z e => grd1 e) rfl rfl (by decide) (cat4 (Nat.le_of_ble_eq_true rfl)) dL_law_1308 (kI (fun v219 h218 => ?_)) xNo
      refine x_aload_nR (pc := 1311) (a := x2) 2 rfl rfl dL_law_1311 ?_
      refine x_aload_nR (pc := 1312) (a := x0) 0 rfl rfl dL_law_1312 ?_
      refine x_iload (pc := 1313) 4 rfl dL_law_1313 ?_
      refine x_iconst (pc := 1315) (v := 1) (by decide) dL_law_1315 ?_
      refine x_iadd (pc := 1316) dL_law_1316 ?_
      refine x_scrI (pc := 1317) dL_law_1317 ?_
      intro v220
      refine x_aload_nR (pc := 1318) (a := x0) 0 rfl rfl dL_law_1318 ?_
      refine x_iload (pc := 1319) 4 rfl dL_law_1319 ?_
      refine x_iconst (pc := 1321) (v := 2) (by decide) dL_law_1321 ?_
      refine x_iadd (pc := 1322) dL_law_1322 ?_
      refine x_scrI (pc := 1323) dL_law_1323 ?_
      intro v221
      refine x_aload_nR (pc := 1324) (a := x0) 0 rfl rfl dL_law_1324 ?_
      refine x_iload (pc := 1325) 4 rfl dL_law_1325 ?_
      refine x_iconst (pc := 1327) (v := 3) (by decide) dL_law_1327 ?_
      refine x_iadd (pc := 1328) dL_law_1328 ?_
      refine x_scrI (pc := 1329) dL_law_1329 ?_
      intro v222
      refine x_callV (pc := 1330) (As := [.int v220, .int v221, .int v222]) (rest := [.int v219]) (lev' := 8) si_X0_140 (m_M_turn h218 x2 v220 v221 v222) (fun z e => grd1 e) rfl rfl (by decide) (cat4 (Nat.le_of_ble_eq_true rfl)) dL_law_1330 (kI (fun v224 h223 => ?_)) xNo
      refine x_icmp_eq (pc := 1333) 1946 (by decide) dL_law_1333 ?_ ?_
      · refine x_iinc (pc := 1946) (v := (6 : Int32)) (lv' := [(4, .int (x4 + (6 : Int32))), (0, .ref x0), (1, .ref x1), (2, .ref x2), (3, .ref x3)]) 4 rfl (by decide) (by decide) rfl dL_law_1946 ?_
        refine x_goto (pc := 1949) 23 (by decide) dL_law_1949 ?_
        refine Sim.lv [1, 2, 3, 4, 0] rfl ?_
        exact hr23 h223 x0 x1 x2 x3 (x4 + (6 : Int32))
      · refine x_iconst (pc := 1336) (v := 0) (by decide) dL_law_1336 ?_
        exact x_zret (pc := 1337) dL_law_1337
    refine x_sw (pc := 40) (v := 26) 1338 dL_law_40 rfl (by decide) (by decide) rfl (by decide) ?_ ?_
    · refine x_aload_nR (pc := 1338) (a := x1) 1 rfl rfl dL_law_1338 ?_
      refine x_aload_nR (pc := 1339) (a := x0) 0 rfl rfl dL_law_1339 ?_
      refine x_iload (pc := 1340) 4 rfl dL_law_1340 ?_
      refine x_iconst (pc := 1342) (v := 1) (by decide) dL_law_1342 ?_
      refine x_iadd (pc := 1343) dL_law_1343 ?_
      refine x_scrI (pc := 1344) dL_law_1344 ?_
      intro v225
      refine x_aload_nR (pc := 1345) (a := x0) 0 rfl rfl dL_law_1345 ?_
      refine x_iload (pc := 1346) 4 rfl dL_law_1346 ?_
      refine x_iconst (pc := 1348) (v := 2) (by decide) dL_law_1348 ?_
      refine x_iadd (pc := 1349) dL_law_1349 ?_
      refine x_scrI (pc := 1350) dL_law_1350 ?_
      intro v226
      refine x_callV (pc := 1351) (As := [.int v225, .int v226]) (rest := []) (lev' := 19) si_X0_141 (m_B_paste h x1 v225 v226) (fun z e => grd1 e) rfl rfl (by decide) (cat4 (Nat.le_of_ble_eq_true rfl)) dL_law_1351 (kI (fun v228 h227 => ?_)) xNo
      refine x_aload_nR (pc := 1354) (a := x2) 2 rfl rfl dL_law_1354 ?_
      refine x_aload_nR (pc := 1355) (a := x0) 0 rfl rfl dL_law_1355 ?_
      refine x_iload (pc := 1356) 4 rfl dL_law_1356 ?_
      refine x_iconst (pc := 1358) (v := 1) (by decide) dL_law_1358 ?_
      refine x_iadd (pc := 1359) dL_law_1359 ?_
      refine x_scrI (pc := 1360) dL_law_1360 ?_
      intro v229
      refine x_aload_nR (pc := 1361) (a := x0) 0 rfl rfl dL_law_1361 ?_
      refine x_iload (pc := 1362) 4 rfl dL_law_1362 ?_
      refine x_iconst (pc := 1364) (v := 2) (by decide) dL_law_1364 ?_
      refine x_iadd (pc := 1365) dL_law_1365 ?_
      refine x_scrI (pc := 1366) dL_law_1366 ?_
      intro v230
      refine x_callV (pc := 1367) (As := [.int v229, .int v230]) (rest := [.int v228]) (lev' := 4) si_X0_144 (m_M_paste h227 x2 v229 v230) (fun z e => grd1 e) rfl rfl (by decide) (cat4 (Nat.le_of_ble_eq_true rfl)) dL_law_1367 (kI (fun v232 h231 => ?_)) xNo
      refine x_icmp_eq (pc := 1370) 1946 (by decide) dL_law_1370 ?_ ?_
      · refine x_iinc (pc := 1946) (v := (6 : Int32)) (lv' := [(4, .int (x4 + (6 : Int32))), (0, .ref x0), (1, .ref x1), (2, .ref x2), (3, .ref x3)]) 4 rfl (by decide) (by decide) rfl dL_law_1946 ?_
        refine x_goto (pc := 1949) 23 (by decide) dL_law_1949 ?_
        refine Sim.lv [1, 2, 3, 4, 0] rfl ?_
        exact hr23 h231 x0 x1 x2 x3 (x4 + (6 : Int32))
      · refine x_iconst (pc := 1373) (v := 0) (by decide) dL_law_1373 ?_
        exact x_zret (pc := 1374) dL_law_1374
    refine x_sw (pc := 40) (v := 27) 1375 dL_law_40 rfl (by decide) (by decide) rfl (by decide) ?_ ?_
    · refine x_aload_nR (pc := 1375) (a := x1) 1 rfl rfl dL_law_1375 ?_
      refine x_aload_nR (pc := 1376) (a := x0) 0 rfl rfl dL_law_1376 ?_
      refine x_iload (pc := 1377) 4 rfl dL_law_1377 ?_
      refine x_iconst (pc := 1379) (v := 1) (by decide) dL_law_1379 ?_
      refine x_iadd (pc := 1380) dL_law_1380 ?_
      refine x_scrI (pc := 1381) dL_law_1381 ?_
      intro v233
      refine x_aload_nR (pc := 1382) (a := x0) 0 rfl rfl dL_law_1382 ?_
      refine x_iload (pc := 1383) 4 rfl dL_law_1383 ?_
      refine x_iconst (pc := 1385) (v := 2) (by decide) dL_law_1385 ?_
      refine x_iadd (pc := 1386) dL_law_1386 ?_
      refine x_scrI (pc := 1387) dL_law_1387 ?_
      intro v234
      refine x_callV (pc := 1388) (As := [.int v233, .int v234]) (rest := []) (lev' := 25) si_X0_145 (m_B_join h x1 v233 v234) (fun z e => grd1 e) rfl rfl (by decide) (cat4 (Nat.le_of_ble_eq_true rfl)) dL_law_1388 (kI (fun v236 h235 => ?_)) xNo
      refine x_aload_nR (pc := 1391) (a := x2) 2 rfl rfl dL_law_1391 ?_
      refine x_aload_nR (pc := 1392) (a := x0) 0 rfl rfl dL_law_1392 ?_
      refine x_iload (pc := 1393) 4 rfl dL_law_1393 ?_
      refine x_iconst (pc := 1395) (v := 1) (by decide) dL_law_1395 ?_
      refine x_iadd (pc := 1396) dL_law_1396 ?_
      refine x_scrI (pc := 1397) dL_law_1397 ?_
      intro v237
      refine x_aload_nR (pc := 1398) (a := x0) 0 rfl rfl dL_law_1398 ?_
      refine x_iload (pc := 1399) 4 rfl dL_law_1399 ?_
      refine x_iconst (pc := 1401) (v := 2) (by decide) dL_law_1401 ?_
      refine x_iadd (pc := 1402) dL_law_1402 ?_
      refine x_scrI (pc := 1403) dL_law_1403 ?_
      intro v238
      refine x_callV (pc := 1404) (As := [.int v237, .int v238]) (rest := [.int v236]) (lev' := 8) si_X0_148 (m_M_join h235 x2 v237 v238) (fun z e => grd1 e) rfl rfl (by decide) (cat4 (Nat.le_of_ble_eq_true rfl)) dL_law_1404 (kI (fun v240 h239 => ?_)) xNo
      refine x_icmp_eq (pc := 1407) 1946 (by decide) dL_law_1407 ?_ ?_
      · refine x_iinc (pc := 1946) (v := (6 : Int32)) (lv' := [(4, .int (x4 + (6 : Int32))), (0, .ref x0), (1, .ref x1), (2, .ref x2), (3, .ref x3)]) 4 rfl (by decide) (by decide) rfl dL_law_1946 ?_
        refine x_goto (pc := 1949) 23 (by decide) dL_law_1949 ?_
        refine Sim.lv [1, 2, 3, 4, 0] rfl ?_
        exact hr23 h239 x0 x1 x2 x3 (x4 + (6 : Int32))
      · refine x_iconst (pc := 1410) (v := 0) (by decide) dL_law_1410 ?_
        exact x_zret (pc := 1411) dL_law_1411
    refine x_sw (pc := 40) (v := 28) 1412 dL_law_40 rfl (by decide) (by decide) rfl (by decide) ?_ ?_
    · refine x_aload_nR (pc := 1412) (a := x1) 1 rfl rfl dL_law_1412 ?_
      refine x_aload_nR (pc := 1413) (a := x0) 0 rfl rfl dL_law_1413 ?_
      refine x_iload (pc := 1414) 4 rfl dL_law_1414 ?_
      refine x_iconst (pc := 1416) (v := 1) (by decide) dL_law_1416 ?_
      refine x_iadd (pc := 1417) dL_law_1417 ?_
      refine x_scrI (pc := 1418) dL_law_1418 ?_
      intro v241
      refine x_aload_nR (pc := 1419) (a := x0) 0 rfl rfl dL_law_1419 ?_
      refine x_iload (pc := 1420) 4 rfl dL_law_1420 ?_
      refine x_iconst (pc := 1422) (v := 2) (by decide) dL_law_1422 ?_
      refine x_iadd (pc := 1423) dL_law_1423 ?_
      refine x_scrI (pc := 1424) dL_law_1424 ?_
      intro v242
      refine x_aload_nR (pc := 1425) (a := x0) 0 rfl rfl dL_law_1425 ?_
      refine x_iload (pc := 1426) 4 rfl dL_law_1426 ?_
      refine x_iconst (pc := 1428) (v := 3) (by decide) dL_law_1428 ?_
      refine x_iadd (pc := 1429) dL_law_1429 ?_
      refine x_scrI (pc := 1430) dL_law_1430 ?_
      intro v243
      refine x_callV (pc := 1431) (As := [.int v241, .int v242, .int v243]) (rest := []) (lev' := 25) si_X0_149 (m_B_split h x1 v241 v242 v243) (fun z e => grd1 e) rfl rfl (by decide) (cat4 (Nat.le_of_ble_eq_true rfl)) dL_law_1431 (kI (fun v245 h244 => ?_)) xNo
      refine x_aload_nR (pc := 1434) (a := x2) 2 rfl rfl dL_law_1434 ?_
      refine x_aload_nR (pc := 1435) (a := x0) 0 rfl rfl dL_law_1435 ?_
      refine x_iload (pc := 1436) 4 rfl dL_law_1436 ?_
      refine x_iconst (pc := 1438) (v := 1) (by decide) dL_law_1438 ?_
      refine x_iadd (pc := 1439) dL_law_1439 ?_
      refine x_scrI (pc := 1440) dL_law_1440 ?_
      intro v246
      refine x_aload_nR (pc := 1441) (a := x0) 0 rfl rfl dL_law_1441 ?_
      refine x_iload (pc := 1442) 4 rfl dL_law_1442 ?_
      refine x_iconst (pc := 1444) (v := 2) (by decide) dL_law_1444 ?_
      refine x_iadd (pc := 1445) dL_law_1445 ?_
      refine x_scrI (pc := 1446) dL_law_1446 ?_
      intro v247
      refine x_aload_nR (pc := 1447) (a := x0) 0 rfl rfl dL_law_1447 ?_
      refine x_iload (pc := 1448) 4 rfl dL_law_1448 ?_
      refine x_iconst (pc := 1450) (v := 3) (by decide) dL_law_1450 ?_
      refine x_iadd (pc := 1451) dL_law_1451 ?_
      refine x_scrI (pc := 1452) dL_law_1452 ?_
      intro v248
      refine x_callV (pc := 1453) (As := [.int v246, .int v247, .int v248]) (rest := [.int v245]) (lev' := 8) si_X0_152 (m_M_split h244 x2 v246 v247 v248) (fun z e => grd1 e) rfl rfl (by decide) (cat4 (Nat.le_of_ble_eq_true rfl)) dL_law_1453 (kI (fun v250 h249 => ?_)) xNo
      refine x_icmp_eq (pc := 1456) 1946 (by decide) dL_law_1456 ?_ ?_
      · refine x_iinc (pc := 1946) (v := (6 : Int32)) (lv' := [(4, .int (x4 + (6 : Int32))), (0, .ref x0), (1, .ref x1), (2, .ref x2), (3, .ref x3)]) 4 rfl (by decide) (by decide) rfl dL_law_1946 ?_
        refine x_goto (pc := 1949) 23 (by decide) dL_law_1949 ?_
        refine Sim.lv [1, 2, 3, 4, 0] rfl ?_
        exact hr23 h249 x0 x1 x2 x3 (x4 + (6 : Int32))
      · refine x_iconst (pc := 1459) (v := 0) (by decide) dL_law_1459 ?_
        exact x_zret (pc := 1460) dL_law_1460
    refine x_sw (pc := 40) (v := 29) 1461 dL_law_40 rfl (by decide) (by decide) rfl (by decide) ?_ ?_
    · refine x_aload_nR (pc := 1461) (a := x1) 1 rfl rfl dL_law_1461 ?_
      refine x_callV (pc := 1462) (As := []) (rest := []) (lev' := 3) si_X0_153 (m_B_letters h x1) (fun z e => grd1 e) rfl rfl (by decide) (cat4 (Nat.le_of_ble_eq_true rfl)) dL_law_1462 (kI (fun v252 h251 => ?_)) xNo
      refine x_aload_nR (pc := 1465) (a := x2) 2 rfl rfl dL_law_1465 ?_
      refine x_callV (pc := 1466) (As := []) (rest := [.int v252]) (lev' := 1) si_X0_156 (m_M_letters h251 x2) (fun z e => grd1 e) rfl rfl (by decide) (cat4 (Nat.le_of_ble_eq_true rfl)) dL_law_1466 (kI (fun v254 h253 => ?_)) xNo
      refine x_icmp_eq (pc := 1469) 1946 (by decide) dL_law_1469 ?_ ?_
      · refine x_iinc (pc := 1946) (v := (6 : Int32)) (lv' := [(4, .int (x4 + (6 : Int32))), (0, .ref x0), (1, .ref x1), (2, .ref x2), (3, .ref x3)]) 4 rfl (by decide) (by decide) rfl dL_law_1946 ?_
        refine x_goto (pc := 1949) 23 (by decide) dL_law_1949 ?_
        refine Sim.lv [1, 2, 3, 4, 0] rfl ?_
        exact hr23 h253 x0 x1 x2 x3 (x4 + (6 : Int32))
      · refine x_iconst (pc := 1472) (v := 0) (by decide) dL_law_1472 ?_
        exact x_zret (pc := 1473) dL_law_1473
    refine x_sw (pc := 40) (v := 30) 1474 dL_law_40 rfl (by decide) (by decide) rfl (by decide) ?_ ?_
    · refine x_aload_nR (pc := 1474) (a := x1) 1 rfl rfl dL_law_1474 ?_
      refine x_aload_nR (pc := 1475) (a := x0) 0 rfl rfl dL_law_1475 ?_
      refine x_iload (pc := 1476) 4 rfl dL_law_1476 ?_
      refine x_iconst (pc := 1478) (v := 1) (by decide) dL_law_1478 ?_
      refine x_iadd (pc := 1479) dL_law_1479 ?_
      refine x_scrI (pc := 1480) dL_law_1480 ?_
      intro v255
      refine x_callV (pc := 1481) (As := [.int v255]) (rest := []) (lev' := 6) si_X0_157 (m_B_letter h x1 v255) (fun z e => grd1 e) rfl rfl (by decide) (cat4 (Nat.le_of_ble_eq_true rfl)) dL_law_1481 (kI (fun v257 h256 => ?_)) xNo
      refine x_aload_nR (pc := 1484) (a := x2) 2 rfl rfl dL_law_1484 ?_
      refine x_aload_nR (pc := 1485) (a := x0) 0 rfl rfl dL_law_1485 ?_
      refine x_iload (pc := 1486) 4 rfl dL_law_1486 ?_
      refine x_iconst (pc := 1488) (v := 1) (by decide) dL_law_1488 ?_
      refine x_iadd (pc := 1489) dL_law_1489 ?_
      refine x_scrI (pc := 1490) dL_law_1490 ?_
      intro v258
      refine x_callV (pc := 1491) (As := [.int v258]) (rest := [.int v257]) (lev' := 3) si_X0_160 (m_M_letter h256 x2 v258) (fun z e => grd1 e) rfl rfl (by decide) (cat4 (Nat.le_of_ble_eq_true rfl)) dL_law_1491 (kI (fun v260 h259 => ?_)) xNo
      refine x_icmp_eq (pc := 1494) 1946 (by decide) dL_law_1494 ?_ ?_
      · refine x_iinc (pc := 1946) (v := (6 : Int32)) (lv' := [(4, .int (x4 + (6 : Int32))), (0, .ref x0), (1, .ref x1), (2, .ref x2), (3, .ref x3)]) 4 rfl (by decide) (by decide) rfl dL_law_1946 ?_
        refine x_goto (pc := 1949) 23 (by decide) dL_law_1949 ?_
        refine Sim.lv [1, 2, 3, 4, 0] rfl ?_
        exact hr23 h259 x0 x1 x2 x3 (x4 + (6 : Int32))
      · refine x_iconst (pc := 1497) (v := 0) (by decide) dL_law_1497 ?_
        exact x_zret (pc := 1498) dL_law_1498
    refine x_sw (pc := 40) (v := 31) 1499 dL_law_40 rfl (by decide) (by decide) rfl (by decide) ?_ ?_
    · refine x_aload_nR (pc := 1499) (a := x1) 1 rfl rfl dL_law_1499 ?_
      refine x_aload_nR (pc := 1500) (a := x0) 0 rfl rfl dL_law_1500 ?_
      refine x_iload (pc := 1501) 4 rfl dL_law_1501 ?_
      refine x_iconst (pc := 1503) (v := 1) (by decide) dL_law_1503 ?_
      refine x_iadd (pc := 1504) dL_law_1504 ?_
      refine x_scrI (pc := 1505) dL_law_1505 ?_
      intro v261
      refine x_aload_nR (pc := 1506) (a := x0) 0 rfl rfl dL_law_1506 ?_
      refine x_iload (pc := 1507) 4 rfl dL_law_1507 ?_
      refine x_iconst (pc := 1509) (v := 2) (by decide) dL_law_1509 ?_
      refine x_iadd (pc := 1510) dL_law_1510 ?_
      refine x_scrI (pc := 1511) dL_law_1511 ?_
      intro v262
      refine x_callV (pc := 1512) (As := [.int v261, .int v262]) (rest := []) (lev' := 6) si_X0_161 (m_B_count h x1 v261 v262) (fun z e => grd1 e) rfl rfl (by decide) (cat4 (Nat.le_of_ble_eq_true rfl)) dL_law_1512 (kI (fun v264 h263 => ?_)) xNo
      refine x_aload_nR (pc := 1515) (a := x2) 2 rfl rfl dL_law_1515 ?_
      refine x_aload_nR (pc := 1516) (a := x0) 0 rfl rfl dL_law_1516 ?_
      refine x_iload (pc := 1517) 4 rfl dL_law_1517 ?_
      refine x_iconst (pc := 1519) (v := 1) (by decide) dL_law_1519 ?_
      refine x_iadd (pc := 1520) dL_law_1520 ?_
      refine x_scrI (pc := 1521) dL_law_1521 ?_
      intro v265
      refine x_aload_nR (pc := 1522) (a := x0) 0 rfl rfl dL_law_1522 ?_
      refine x_iload (pc := 1523) 4 rfl dL_law_1523 ?_
      refine x_iconst (pc := 1525) (v := 2) (by decide) dL_law_1525 ?_
      refine x_iadd (pc := 1526) dL_law_1526 ?_
      refine x_scrI (pc := 1527) dL_law_1527 ?_
      intro v266
      refine x_callV (pc := 1528) (As := [.int v265, .int v266]) (rest := [.int v264]) (lev' := 2) si_X0_164 (m_M_count h263 x2 v265 v266) (fun z e => grd1 e) rfl rfl (by decide) (cat4 (Nat.le_of_ble_eq_true rfl)) dL_law_1528 (kI (fun v268 h267 => ?_)) xNo
      refine x_icmp_eq (pc := 1531) 1946 (by decide) dL_law_1531 ?_ ?_
      · refine x_iinc (pc := 1946) (v := (6 : Int32)) (lv' := [(4, .int (x4 + (6 : Int32))), (0, .ref x0), (1, .ref x1), (2, .ref x2), (3, .ref x3)]) 4 rfl (by decide) (by decide) rfl dL_law_1946 ?_
        refine x_goto (pc := 1949) 23 (by decide) dL_law_1949 ?_
        refine Sim.lv [1, 2, 3, 4, 0] rfl ?_
        exact hr23 h267 x0 x1 x2 x3 (x4 + (6 : Int32))
      · refine x_iconst (pc := 1534) (v := 0) (by decide) dL_law_1534 ?_
        exact x_zret (pc := 1535) dL_law_1535
    refine x_sw (pc := 40) (v := 32) 1536 dL_law_40 rfl (by decide) (by decide) rfl (by decide) ?_ ?_
    · refine x_aload_nR (pc := 1536) (a := x1) 1 rfl rfl dL_law_1536 ?_
      refine x_aload_nR (pc := 1537) (a := x0) 0 rfl rfl dL_law_1537 ?_
      refine x_iload (pc := 1538) 4 rfl dL_law_1538 ?_
      refine x_iconst (pc := 1540) (v := 1) (by decide) dL_law_1540 ?_
      refine x_iadd (pc := 1541) dL_law_1541 ?_
      refine x_scrI (pc := 1542) dL_law_1542 ?_
      intro v269
      refine x_aload_nR (pc := 1543) (a := x0) 0 rfl rfl dL_law_1543 ?_
      refine x_iload (pc := 1544) 4 rfl dL_law_1544 ?_
      refine x_iconst (pc := 1546) (v := 2) (by decide) dL_law_1546 ?_
      refine x_iadd (pc := 1547) dL_law_1547 ?_
      refine x_scrI (pc := 1548) dL_law_1548 ?_
      intro v270
      refine x_callV (pc := 1549) (As := [.int v269, .int v270]) (rest := []) (lev' := 115) si_X0_165 (m_B_place h x1 v269 v270) (fun z e => grd1 e) rfl rfl (by decide) (cat4 (Nat.le_of_ble_eq_true rfl)) dL_law_1549 (kI (fun v272 h271 => ?_)) xNo
      refine x_aload_nR (pc := 1552) (a := x2) 2 rfl rfl dL_law_1552 ?_
      refine x_aload_nR (pc := 1553) (a := x0) 0 rfl rfl dL_law_1553 ?_
      refine x_iload (pc := 1554) 4 rfl dL_law_1554 ?_
      refine x_iconst (pc := 1556) (v := 1) (by decide) dL_law_1556 ?_
      refine x_iadd (pc := 1557) dL_law_1557 ?_
      refine x_scrI (pc := 1558) dL_law_1558 ?_
      intro v273
      refine x_aload_nR (pc := 1559) (a := x0) 0 rfl rfl dL_law_1559 ?_
      refine x_iload (pc := 1560) 4 rfl dL_law_1560 ?_
      refine x_iconst (pc := 1562) (v := 2) (by decide) dL_law_1562 ?_
      refine x_iadd (pc := 1563) dL_law_1563 ?_
      refine x_scrI (pc := 1564) dL_law_1564 ?_
      intro v274
      refine x_callV (pc := 1565) (As := [.int v273, .int v274]) (rest := [.int v272]) (lev' := 2) si_X0_168 (m_M_place h271 x2 v273 v274) (fun z e => grd1 e) rfl rfl (by decide) (cat4 (Nat.le_of_ble_eq_true rfl)) dL_law_1565 (kI (fun v276 h275 => ?_)) xNo
      refine x_icmp_eq (pc := 1568) 1946 (by decide) dL_law_1568 ?_ ?_
      · refine x_iinc (pc := 1946) (v := (6 : Int32)) (lv' := [(4, .int (x4 + (6 : Int32))), (0, .ref x0), (1, .ref x1), (2, .ref x2), (3, .ref x3)]) 4 rfl (by decide) (by decide) rfl dL_law_1946 ?_
        refine x_goto (pc := 1949) 23 (by decide) dL_law_1949 ?_
        refine Sim.lv [1, 2, 3, 4, 0] rfl ?_
        exact hr23 h275 x0 x1 x2 x3 (x4 + (6 : Int32))
      · refine x_iconst (pc := 1571) (v := 0) (by decide) dL_law_1571 ?_
        exact x_zret (pc := 1572) dL_law_1572
    refine x_sw (pc := 40) (v := 33) 1573 dL_law_40 rfl (by decide) (by decide) rfl (by decide) ?_ ?_
    · refine x_aload_nR (pc := 1573) (a := x1) 1 rfl rfl dL_law_1573 ?_
      refine x_aload_nR (pc := 1574) (a := x0) 0 rfl rfl dL_law_1574 ?_
      refine x_iload (pc := 1575) 4 rfl dL_law_1575 ?_
      refine x_iconst (pc := 1577) (v := 1) (by decide) dL_law_1577 ?_
      refine x_iadd (pc := 1578) dL_law_1578 ?_
      refine x_scrI (pc := 1579) dL_law_1579 ?_
      intro v277
      refine x_aload_nR (pc := 1580) (a := x0) 0 rfl rfl dL_law_1580 ?_
      refine x_iload (pc := 1581) 4 rfl dL_law_1581 ?_
      refine x_iconst (pc := 1583) (v := 2) (by decide) dL_law_1583 ?_
      refine x_iadd (pc := 1584) dL_law_1584 ?_
      refine x_scrI (pc := 1585) dL_law_1585 ?_
      intro v278
      refine x_aload_nR (pc := 1586) (a := x0) 0 rfl rfl dL_law_1586 ?_
      refine x_iload (pc := 1587) 4 rfl dL_law_1587 ?_
      refine x_iconst (pc := 1589) (v := 3) (by decide) dL_law_1589 ?_
      refine x_iadd (pc := 1590) dL_law_1590 ?_
      refine x_scrI (pc := 1591) dL_law_1591 ?_
      intro v279
      refine x_callV (pc := 1592) (As := [.int v277, .int v278, .int v279]) (rest := []) (lev' := 6) si_X0_169 (m_B_least h x1 v277 v278 v279) (fun z e => grd1 e) rfl rfl (by decide) (cat4 (Nat.le_of_ble_eq_true rfl)) dL_law_1592 (kI (fun v281 h280 => ?_)) xNo
      refine x_aload_nR (pc := 1595) (a := x2) 2 rfl rfl dL_law_1595 ?_
      refine x_aload_nR (pc := 1596) (a := x0) 0 rfl rfl dL_law_1596 ?_
      refine x_iload (pc := 1597) 4 rfl dL_law_1597 ?_
      refine x_iconst (pc := 1599) (v := 1) (by decide) dL_law_1599 ?_
      refine x_iadd (pc := 1600) dL_law_1600 ?_
      refine x_scrI (pc := 1601) dL_law_1601 ?_
      intro v282
      refine x_aload_nR (pc := 1602) (a := x0) 0 rfl rfl dL_law_1602 ?_
      refine x_iload (pc := 1603) 4 rfl dL_law_1603 ?_
      refine x_iconst (pc := 1605) (v := 2) (by decide) dL_law_1605 ?_
      refine x_iadd (pc := 1606) dL_law_1606 ?_
      refine x_scrI (pc := 1607) dL_law_1607 ?_
      intro v283
      refine x_aload_nR (pc := 1608) (a := x0) 0 rfl rfl dL_law_1608 ?_
      refine x_iload (pc := 1609) 4 rfl dL_law_1609 ?_
      refine x_iconst (pc := 1611) (v := 3) (by decide) dL_law_1611 ?_
      refine x_iadd (pc := 1612) dL_law_1612 ?_
      refine x_scrI (pc := 1613) dL_law_1613 ?_
      intro v284
      refine x_callV (pc := 1614) (As := [.int v282, .int v283, .int v284]) (rest := [.int v281]) (lev' := 1) si_X0_172 (m_M_least h280 x2 v282 v283 v284) (fun z e => grd1 e) rfl rfl (by decide) (cat4 (Nat.le_of_ble_eq_true rfl)) dL_law_1614 (kI (fun v286 h285 => ?_)) xNo
      refine x_icmp_eq (pc := 1617) 1946 (by decide) dL_law_1617 ?_ ?_
      · refine x_iinc (pc := 1946) (v := (6 : Int32)) (lv' := [(4, .int (x4 + (6 : Int32))), (0, .ref x0), (1, .ref x1), (2, .ref x2), (3, .ref x3)]) 4 rfl (by decide) (by decide) rfl dL_law_1946 ?_
        refine x_goto (pc := 1949) 23 (by decide) dL_law_1949 ?_
        refine Sim.lv [1, 2, 3, 4, 0] rfl ?_
        exact hr23 h285 x0 x1 x2 x3 (x4 + (6 : Int32))
      · refine x_iconst (pc := 1620) (v := 0) (by decide) dL_law_1620 ?_
        exact x_zret (pc := 1621) dL_law_1621
    refine x_sw (pc := 40) (v := 34) 1622 dL_law_40 rfl (by decide) (by decide) rfl (by decide) ?_ ?_
    · refine x_aload_nR (pc := 1622) (a := x1) 1 rfl rfl dL_law_1622 ?_
      refine x_aload_nR (pc := 1623) (a := x0) 0 rfl rfl dL_law_1623 ?_
      refine x_iload (pc := 1624) 4 rfl dL_law_1624 ?_
      refine x_iconst (pc := 1626) (v := 1) (by decide) dL_law_1626 ?_
      refine x_iadd (pc := 1627) dL_law_1627 ?_
      refine x_scrI (pc := 1628) dL_law_1628 ?_
      intro v287
      refine x_aload_nR (pc := 1629) (a := x0) 0 rfl rfl dL_law_1629 ?_
      refine x_iload (pc := 1630) 4 rfl dL_law_1630 ?_
      refine x_iconst (pc := 1632) (v := 2) (by decide) dL_law_1632 ?_
      refine x_iadd (pc := 1633) dL_law_1633 ?_
      refine x_scrI (pc := 1634) dL_law_1634 ?_
      intro v288
      refine x_callV (pc := 1635) (As := [.int v287, .int v288]) (rest := []) (lev' := 4) si_X0_173 (m_B_node h x1 v287 v288) (fun z e => grd1 e) rfl rfl (by decide) (cat4 (Nat.le_of_ble_eq_true rfl)) dL_law_1635 (kI (fun v290 h289 => ?_)) xNo
      refine x_aload_nR (pc := 1638) (a := x2) 2 rfl rfl dL_law_1638 ?_
      refine x_aload_nR (pc := 1639) (a := x0) 0 rfl rfl dL_law_1639 ?_
      refine x_iload (pc := 1640) 4 rfl dL_law_1640 ?_
      refine x_iconst (pc := 1642) (v := 1) (by decide) dL_law_1642 ?_
      refine x_iadd (pc := 1643) dL_law_1643 ?_
      refine x_scrI (pc := 1644) dL_law_1644 ?_
      intro v291
      refine x_aload_nR (pc := 1645) (a := x0) 0 rfl rfl dL_law_1645 ?_
      refine x_iload (pc := 1646) 4 rfl dL_law_1646 ?_
      refine x_iconst (pc := 1648) (v := 2) (by decide) dL_law_1648 ?_
      refine x_iadd (pc := 1649) dL_law_1649 ?_
      refine x_scrI (pc := 1650) dL_law_1650 ?_
      intro v292
      refine x_callV (pc := 1651) (As := [.int v291, .int v292]) (rest := [.int v290]) (lev' := 2) si_X0_176 (m_M_node h289 x2 v291 v292) (fun z e => grd1 e) rfl rfl (by decide) (cat4 (Nat.le_of_ble_eq_true rfl)) dL_law_1651 (kI (fun v294 h293 => ?_)) xNo
      refine x_icmp_eq (pc := 1654) 1946 (by decide) dL_law_1654 ?_ ?_
      · refine x_iinc (pc := 1946) (v := (6 : Int32)) (lv' := [(4, .int (x4 + (6 : Int32))), (0, .ref x0), (1, .ref x1), (2, .ref x2), (3, .ref x3)]) 4 rfl (by decide) (by decide) rfl dL_law_1946 ?_
        refine x_goto (pc := 1949) 23 (by decide) dL_law_1949 ?_
        refine Sim.lv [1, 2, 3, 4, 0] rfl ?_
        exact hr23 h293 x0 x1 x2 x3 (x4 + (6 : Int32))
      · refine x_iconst (pc := 1657) (v := 0) (by decide) dL_law_1657 ?_
        exact x_zret (pc := 1658) dL_law_1658
    refine x_sw (pc := 40) (v := 35) 1659 dL_law_40 rfl (by decide) (by decide) rfl (by decide) ?_ ?_
    · refine x_aload_nR (pc := 1659) (a := x1) 1 rfl rfl dL_law_1659 ?_
      refine x_aload_nR (pc := 1660) (a := x0) 0 rfl rfl dL_law_1660 ?_
      refine x_iload (pc := 1661) 4 rfl dL_law_1661 ?_
      refine x_iconst (pc := 1663) (v := 1) (by decide) dL_law_1663 ?_
      refine x_iadd (pc := 1664) dL_law_1664 ?_
      refine x_scrI (pc := 1665) dL_law_1665 ?_
      intro v295
      refine x_aload_nR (pc := 1666) (a := x0) 0 rfl rfl dL_law_1666 ?_
      refine x_iload (pc := 1667) 4 rfl dL_law_1667 ?_
      refine x_iconst (pc := 1669) (v := 2) (by decide) dL_law_1669 ?_
      refine x_iadd (pc := 1670) dL_law_1670 ?_
      refine x_scrI (pc := 1671) dL_law_1671 ?_
      intro v296
      refine x_callV (pc := 1672) (As := [.int v295, .int v296]) (rest := []) (lev' := 25) si_X0_177 (m_B_type h x1 v295 v296) (fun z e => grd1 e) rfl rfl (by decide) (cat4 (Nat.le_of_ble_eq_true rfl)) dL_law_1672 (kI (fun v298 h297 => ?_)) xNo
      refine x_aload_nR (pc := 1675) (a := x2) 2 rfl rfl dL_law_1675 ?_
      refine x_aload_nR (pc := 1676) (a := x0) 0 rfl rfl dL_law_1676 ?_
      refine x_iload (pc := 1677) 4 rfl dL_law_1677 ?_
      refine x_iconst (pc := 1679) (v := 1) (by decide) dL_law_1679 ?_
      refine x_iadd (pc := 1680) dL_law_1680 ?_
      refine x_scrI (pc := 1681) dL_law_1681 ?_
      intro v299
      refine x_aload_nR (pc := 1682) (a := x0) 0 rfl rfl dL_law_1682 ?_
      refine x_iload (pc := 1683) 4 rfl dL_law_1683 ?_
      refine x_iconst (pc := 1685) (v := 2) (by decide) dL_law_1685 ?_
      refine x_iadd (pc := 1686) dL_law_1686 ?_
      refine x_scrI (pc := 1687) dL_law_1687 ?_
      intro v300
      refine x_callV (pc := 1688) (As := [.int v299, .int v300]) (rest := [.int v298]) (lev' := 8) si_X0_180 (m_M_type h297 x2 v299 v300) (fun z e => grd1 e) rfl rfl (by decide) (cat4 (Nat.le_of_ble_eq_true rfl)) dL_law_1688 (kI (fun v302 h301 => ?_)) xNo
      refine x_icmp_eq (pc := 1691) 1946 (by decide) dL_law_1691 ?_ ?_
      · refine x_iinc (pc := 1946) (v := (6 : Int32)) (lv' := [(4, .int (x4 + (6 : Int32))), (0, .ref x0), (1, .ref x1), (2, .ref x2), (3, .ref x3)]) 4 rfl (by decide) (by decide) rfl dL_law_1946 ?_
        refine x_goto (pc := 1949) 23 (by decide) dL_law_1949 ?_
        refine Sim.lv [1, 2, 3, 4, 0] rfl ?_
        exact hr23 h301 x0 x1 x2 x3 (x4 + (6 : Int32))
      · refine x_iconst (pc := 1694) (v := 0) (by decide) dL_law_1694 ?_
        exact x_zret (pc := 1695) dL_law_1695
    refine x_sw (pc := 40) (v := 36) 1696 dL_law_40 rfl (by decide) (by decide) rfl (by decide) ?_ ?_
    · refine x_aload_nR (pc := 1696) (a := x1) 1 rfl rfl dL_law_1696 ?_
      refine x_aload_nR (pc := 1697) (a := x0) 0 rfl rfl dL_law_1697 ?_
      refine x_iload (pc := 1698) 4 rfl dL_law_1698 ?_
      refine x_iconst (pc := 1700) (v := 1) (by decide) dL_law_1700 ?_
      refine x_iadd (pc := 1701) dL_law_1701 ?_
      refine x_scrI (pc := 1702) dL_law_1702 ?_
      intro v303
      refine x_aload_nR (pc := 1703) (a := x0) 0 rfl rfl dL_law_1703 ?_
      refine x_iload (pc := 1704) 4 rfl dL_law_1704 ?_
      refine x_iconst (pc := 1706) (v := 2) (by decide) dL_law_1706 ?_
      refine x_iadd (pc := 1707) dL_law_1707 ?_
      refine x_scrI (pc := 1708) dL_law_1708 ?_
      intro v304
      refine x_callV (pc := 1709) (As := [.int v303, .int v304]) (rest := []) (lev' := 25) si_X0_181 (m_B_erase h x1 v303 v304) (fun z e => grd1 e) rfl rfl (by decide) (cat4 (Nat.le_of_ble_eq_true rfl)) dL_law_1709 (kI (fun v306 h305 => ?_)) xNo
      refine x_aload_nR (pc := 1712) (a := x2) 2 rfl rfl dL_law_1712 ?_
      refine x_aload_nR (pc := 1713) (a := x0) 0 rfl rfl dL_law_1713 ?_
      refine x_iload (pc := 1714) 4 rfl dL_law_1714 ?_
      refine x_iconst (pc := 1716) (v := 1) (by decide) dL_law_1716 ?_
      refine x_iadd (pc := 1717) dL_law_1717 ?_
      refine x_scrI (pc := 1718) dL_law_1718 ?_
      intro v307
      refine x_aload_nR (pc := 1719) (a := x0) 0 rfl rfl dL_law_1719 ?_
      refine x_iload (pc := 1720) 4 rfl dL_law_1720 ?_
      refine x_iconst (pc := 1722) (v := 2) (by decide) dL_law_1722 ?_
      refine x_iadd (pc := 1723) dL_law_1723 ?_
      refine x_scrI (pc := 1724) dL_law_1724 ?_
      intro v308
      refine x_callV (pc := 1725) (As := [.int v307, .int v308]) (rest := [.int v306]) (lev' := 8) si_X0_184 (m_M_erase h305 x2 v307 v308) (fun z e => grd1 e) rfl rfl (by decide) (cat4 (Nat.le_of_ble_eq_true rfl)) dL_law_1725 (kI (fun v310 h309 => ?_)) xNo
      refine x_icmp_eq (pc := 1728) 1946 (by decide) dL_law_1728 ?_ ?_
      · refine x_iinc (pc := 1946) (v := (6 : Int32)) (lv' := [(4, .int (x4 + (6 : Int32))), (0, .ref x0), (1, .ref x1), (2, .ref x2), (3, .ref x3)]) 4 rfl (by decide) (by decide) rfl dL_law_1946 ?_
        refine x_goto (pc := 1949) 23 (by decide) dL_law_1949 ?_
        refine Sim.lv [1, 2, 3, 4, 0] rfl ?_
        exact hr23 h309 x0 x1 x2 x3 (x4 + (6 : Int32))
      · refine x_iconst (pc := 1731) (v := 0) (by decide) dL_law_1731 ?_
        exact x_zret (pc := 1732) dL_law_1732
    refine x_sw (pc := 40) (v := 37) 1733 dL_law_40 rfl (by decide) (by decide) rfl (by decide) ?_ ?_
    · refine x_aload_nR (pc := 1733) (a := x1) 1 rfl rfl dL_law_1733 ?_
      refine x_callV (pc := 1734) (As := []) (rest := []) (lev' := 6) si_X0_185 (m_B_undo h x1) (fun z e => grd1 e) rfl rfl (by decide) (cat4 (Nat.le_of_ble_eq_true rfl)) dL_law_1734 (kI (fun v312 h311 => ?_)) xNo
      refine x_aload_nR (pc := 1737) (a := x2) 2 rfl rfl dL_law_1737 ?_
      refine x_callV (pc := 1738) (As := []) (rest := [.int v312]) (lev' := 2) si_X0_188 (m_M_undo h311 x2) (fun z e => grd1 e) rfl rfl (by decide) (cat4 (Nat.le_of_ble_eq_true rfl)) dL_law_1738 (kI (fun v314 h313 => ?_)) xNo
      refine x_icmp_eq (pc := 1741) 1946 (by decide) dL_law_1741 ?_ ?_
      · refine x_iinc (pc := 1946) (v := (6 : Int32)) (lv' := [(4, .int (x4 + (6 : Int32))), (0, .ref x0), (1, .ref x1), (2, .ref x2), (3, .ref x3)]) 4 rfl (by decide) (by decide) rfl dL_law_1946 ?_
        refine x_goto (pc := 1949) 23 (by decide) dL_law_1949 ?_
        refine Sim.lv [1, 2, 3, 4, 0] rfl ?_
        exact hr23 h313 x0 x1 x2 x3 (x4 + (6 : Int32))
      · refine x_iconst (pc := 1744) (v := 0) (by decide) dL_law_1744 ?_
        exact x_zret (pc := 1745) dL_law_1745
    refine x_sw (pc := 40) (v := 38) 1746 dL_law_40 rfl (by decide) (by decide) rfl (by decide) ?_ ?_
    · refine x_aload_nR (pc := 1746) (a := x1) 1 rfl rfl dL_law_1746 ?_
      refine x_aload_nR (pc := 1747) (a := x0) 0 rfl rfl dL_law_1747 ?_
      refine x_iload (pc := 1748) 4 rfl dL_law_1748 ?_
      refine x_iconst (pc := 1750) (v := 1) (by decide) dL_law_1750 ?_
      refine x_iadd (pc := 1751) dL_law_1751 ?_
      refine x_scrI (pc := 1752) dL_law_1752 ?_
      intro v315
      refine x_aload_nR (pc := 1753) (a := x0) 0 rfl rfl dL_law_1753 ?_
      refine x_iload (pc := 1754) 4 rfl dL_law_1754 ?_
      refine x_iconst (pc := 1756) (v := 2) (by decide) dL_law_1756 ?_
      refine x_iadd (pc := 1757) dL_law_1757 ?_
      refine x_scrI (pc := 1758) dL_law_1758 ?_
      intro v316
      refine x_callV (pc := 1759) (As := [.int v315, .int v316]) (rest := []) (lev' := 26) si_X0_189 (m_B_drawn h x1 v315 v316) (fun z e => grd1 e) rfl rfl (by decide) (cat4 (Nat.le_of_ble_eq_true rfl)) dL_law_1759 (kI (fun v318 h317 => ?_)) xNo
      refine x_aload_nR (pc := 1762) (a := x2) 2 rfl rfl dL_law_1762 ?_
      refine x_aload_nR (pc := 1763) (a := x0) 0 rfl rfl dL_law_1763 ?_
      refine x_iload (pc := 1764) 4 rfl dL_law_1764 ?_
      refine x_iconst (pc := 1766) (v := 1) (by decide) dL_law_1766 ?_
      refine x_iadd (pc := 1767) dL_law_1767 ?_
      refine x_scrI (pc := 1768) dL_law_1768 ?_
      intro v319
      refine x_aload_nR (pc := 1769) (a := x0) 0 rfl rfl dL_law_1769 ?_
      refine x_iload (pc := 1770) 4 rfl dL_law_1770 ?_
      refine x_iconst (pc := 1772) (v := 2) (by decide) dL_law_1772 ?_
      refine x_iadd (pc := 1773) dL_law_1773 ?_
      refine x_scrI (pc := 1774) dL_law_1774 ?_
      intro v320
      refine x_callV (pc := 1775) (As := [.int v319, .int v320]) (rest := [.int v318]) (lev' := 9) si_X0_192 (m_M_drawn h317 x2 v319 v320) (fun z e => grd1 e) rfl rfl (by decide) (cat4 (Nat.le_of_ble_eq_true rfl)) dL_law_1775 (kI (fun v322 h321 => ?_)) xNo
      refine x_icmp_eq (pc := 1778) 1946 (by decide) dL_law_1778 ?_ ?_
      · refine x_iinc (pc := 1946) (v := (6 : Int32)) (lv' := [(4, .int (x4 + (6 : Int32))), (0, .ref x0), (1, .ref x1), (2, .ref x2), (3, .ref x3)]) 4 rfl (by decide) (by decide) rfl dL_law_1946 ?_
        refine x_goto (pc := 1949) 23 (by decide) dL_law_1949 ?_
        refine Sim.lv [1, 2, 3, 4, 0] rfl ?_
        exact hr23 h321 x0 x1 x2 x3 (x4 + (6 : Int32))
      · refine x_iconst (pc := 1781) (v := 0) (by decide) dL_law_1781 ?_
        exact x_zret (pc := 1782) dL_law_1782
    refine x_sw (pc := 40) (v := 39) 1783 dL_law_40 rfl (by decide) (by decide) rfl (by decide) ?_ ?_
    · refine x_aload_nR (pc := 1783) (a := x1) 1 rfl rfl dL_law_1783 ?_
      refine x_aload_nR (pc := 1784) (a := x0) 0 rfl rfl dL_law_1784 ?_
      refine x_iload (pc := 1785) 4 rfl dL_law_1785 ?_
      refine x_iconst (pc := 1787) (v := 1) (by decide) dL_law_1787 ?_
      refine x_iadd (pc := 1788) dL_law_1788 ?_
      refine x_scrI (pc := 1789) dL_law_1789 ?_
      intro v323
      refine x_callVX (pc := 1790) (As := [.int v323]) (rest := []) (lev' := 24) si_X0_193 (m_B_book h x1 v323) (fun z e => grd1 e) rfl rfl (by decide) (cat4 (Nat.le_of_ble_eq_true rfl)) dL_law_1790 (kI (fun v325 h324 => ?_)) xNo
      refine x_aload_nR (pc := 1793) (a := x2) 2 rfl rfl dL_law_1793 ?_
      refine x_aload_nR (pc := 1794) (a := x0) 0 rfl rfl dL_law_1794 ?_
      refine x_iload (pc := 1795) 4 rfl dL_law_1795 ?_
      refine x_iconst (pc := 1797) (v := 1) (by decide) dL_law_1797 ?_
      refine x_iadd (pc := 1798) dL_law_1798 ?_
      refine x_scrI (pc := 1799) dL_law_1799 ?_
      intro v326
      refine x_callV (pc := 1800) (As := [.int v326]) (rest := [.int v325]) (lev' := 8) si_X0_196 (m_M_book h324 x2 v326) (fun z e => grd1 e) rfl rfl (by decide) (cat4 (Nat.le_of_ble_eq_true rfl)) dL_law_1800 (kI (fun v328 h327 => ?_)) xNo
      refine x_icmp_eq (pc := 1803) 1946 (by decide) dL_law_1803 ?_ ?_
      · refine x_iinc (pc := 1946) (v := (6 : Int32)) (lv' := [(4, .int (x4 + (6 : Int32))), (0, .ref x0), (1, .ref x1), (2, .ref x2), (3, .ref x3)]) 4 rfl (by decide) (by decide) rfl dL_law_1946 ?_
        refine x_goto (pc := 1949) 23 (by decide) dL_law_1949 ?_
        refine Sim.lv [1, 2, 3, 4, 0] rfl ?_
        exact hr23 h327 x0 x1 x2 x3 (x4 + (6 : Int32))
      · refine x_iconst (pc := 1806) (v := 0) (by decide) dL_law_1806 ?_
        exact x_zret (pc := 1807) dL_law_1807
    refine x_sw (pc := 40) (v := 40) 1808 dL_law_40 rfl (by decide) (by decide) rfl (by decide) ?_ ?_
    · refine x_aload_nR (pc := 1808) (a := x1) 1 rfl rfl dL_law_1808 ?_
      refine x_aload_nR (pc := 1809) (a := x0) 0 rfl rfl dL_law_1809 ?_
      refine x_iload (pc := 1810) 4 rfl dL_law_1810 ?_
      refine x_iconst (pc := 1812) (v := 1) (by decide) dL_law_1812 ?_
      refine x_iadd (pc := 1813) dL_law_1813 ?_
      refine x_scrI (pc := 1814) dL_law_1814 ?_
      intro v329
      refine x_callV (pc := 1815) (As := [.int v329]) (rest := []) (lev' := 2) si_X0_197 (m_B_told h x1 v329) (fun z e => grd1 e) rfl rfl (by decide) (cat4 (Nat.le_of_ble_eq_true rfl)) dL_law_1815 (kI (fun v331 h330 => ?_)) xNo
      refine x_aload_nR (pc := 1818) (a := x2) 2 rfl rfl dL_law_1818 ?_
      refine x_aload_nR (pc := 1819) (a := x0) 0 rfl rfl dL_law_1819 ?_
      refine x_iload (pc := 1820) 4 rfl dL_law_1820 ?_
      refine x_iconst (pc := 1822) (v := 1) (by decide) dL_law_1822 ?_
      refine x_iadd (pc := 1823) dL_law_1823 ?_
      refine x_scrI (pc := 1824) dL_law_1824 ?_
      intro v332
      refine x_callV (pc := 1825) (As := [.int v332]) (rest := [.int v331]) (lev' := 2) si_X0_200 (m_M_told h330 x2 v332) (fun z e => grd1 e) rfl rfl (by decide) (cat4 (Nat.le_of_ble_eq_true rfl)) dL_law_1825 (kI (fun v334 h333 => ?_)) xNo
      refine x_icmp_eq (pc := 1828) 1946 (by decide) dL_law_1828 ?_ ?_
      · refine x_iinc (pc := 1946) (v := (6 : Int32)) (lv' := [(4, .int (x4 + (6 : Int32))), (0, .ref x0), (1, .ref x1), (2, .ref x2), (3, .ref x3)]) 4 rfl (by decide) (by decide) rfl dL_law_1946 ?_
        refine x_goto (pc := 1949) 23 (by decide) dL_law_1949 ?_
        refine Sim.lv [1, 2, 3, 4, 0] rfl ?_
        exact hr23 h333 x0 x1 x2 x3 (x4 + (6 : Int32))
      · refine x_iconst (pc := 1831) (v := 0) (by decide) dL_law_1831 ?_
        exact x_zret (pc := 1832) dL_law_1832
    refine x_sw (pc := 40) (v := 41) 1833 dL_law_40 rfl (by decide) (by decide) rfl (by decide) ?_ ?_
    · refine x_aload_nR (pc := 1833) (a := x1) 1 rfl rfl dL_law_1833 ?_
      refine x_callVX (pc := 1834) (As := []) (rest := []) (lev' := 80) si_X0_201 (m_B_sentence h x1) (fun z e => grd1 e) rfl rfl (by decide) (cat4 (Nat.le_of_ble_eq_true rfl)) dL_law_1834 (kI (fun v336 h335 => ?_)) xNo
      refine x_aload_nR (pc := 1837) (a := x2) 2 rfl rfl dL_law_1837 ?_
      refine x_callV (pc := 1838) (As := []) (rest := [.int v336]) (lev' := 71) si_X0_204 (m_M_sentence h335 x2) (fun z e => grd1 e) rfl rfl (by decide) (cat4 (Nat.le_of_ble_eq_true rfl)) dL_law_1838 (kI (fun v338 h337 => ?_)) xNo
      refine x_icmp_eq (pc := 1841) 1946 (by decide) dL_law_1841 ?_ ?_
      · refine x_iinc (pc := 1946) (v := (6 : Int32)) (lv' := [(4, .int (x4 + (6 : Int32))), (0, .ref x0), (1, .ref x1), (2, .ref x2), (3, .ref x3)]) 4 rfl (by decide) (by decide) rfl dL_law_1946 ?_
        refine x_goto (pc := 1949) 23 (by decide) dL_law_1949 ?_
        refine Sim.lv [1, 2, 3, 4, 0] rfl ?_
        exact hr23 h337 x0 x1 x2 x3 (x4 + (6 : Int32))
      · refine x_iconst (pc := 1844) (v := 0) (by decide) dL_law_1844 ?_
        exact x_zret (pc := 1845) dL_law_1845
    refine x_sw (pc := 40) (v := 42) 1846 dL_law_40 rfl (by decide) (by decide) rfl (by decide) ?_ ?_
    · refine x_aload_nR (pc := 1846) (a := x1) 1 rfl rfl dL_law_1846 ?_
      refine x_aload_nR (pc := 1847) (a := x0) 0 rfl rfl dL_law_1847 ?_
      refine x_iload (pc := 1848) 4 rfl dL_law_1848 ?_
      refine x_iconst (pc := 1850) (v := 1) (by decide) dL_law_1850 ?_
      refine x_iadd (pc := 1851) dL_law_1851 ?_
      refine x_scrI (pc := 1852) dL_law_1852 ?_
      intro v339
      refine x_callV (pc := 1853) (As := [.int v339]) (rest := []) (lev' := 181) si_X0_205 (m_B_said h x1 v339) (fun z e => grd1 e) rfl rfl (by decide) (cat4 (Nat.le_of_ble_eq_true rfl)) dL_law_1853 (kI (fun v341 h340 => ?_)) xNo
      refine x_aload_nR (pc := 1856) (a := x2) 2 rfl rfl dL_law_1856 ?_
      refine x_aload_nR (pc := 1857) (a := x0) 0 rfl rfl dL_law_1857 ?_
      refine x_iload (pc := 1858) 4 rfl dL_law_1858 ?_
      refine x_iconst (pc := 1860) (v := 1) (by decide) dL_law_1860 ?_
      refine x_iadd (pc := 1861) dL_law_1861 ?_
      refine x_scrI (pc := 1862) dL_law_1862 ?_
      intro v342
      refine x_callV (pc := 1863) (As := [.int v342]) (rest := [.int v341]) (lev' := 70) si_X0_208 (m_M_said h340 x2 v342) (fun z e => grd1 e) rfl rfl (by decide) (cat4 (Nat.le_of_ble_eq_true rfl)) dL_law_1863 (kI (fun v344 h343 => ?_)) xNo
      refine x_icmp_eq (pc := 1866) 1946 (by decide) dL_law_1866 ?_ ?_
      · refine x_iinc (pc := 1946) (v := (6 : Int32)) (lv' := [(4, .int (x4 + (6 : Int32))), (0, .ref x0), (1, .ref x1), (2, .ref x2), (3, .ref x3)]) 4 rfl (by decide) (by decide) rfl dL_law_1946 ?_
        refine x_goto (pc := 1949) 23 (by decide) dL_law_1949 ?_
        refine Sim.lv [1, 2, 3, 4, 0] rfl ?_
        exact hr23 h343 x0 x1 x2 x3 (x4 + (6 : Int32))
      · refine x_iconst (pc := 1869) (v := 0) (by decide) dL_law_1869 ?_
        exact x_zret (pc := 1870) dL_law_1870
    refine x_sw (pc := 40) (v := 43) 1871 dL_law_40 rfl (by decide) (by decide) rfl (by decide) ?_ ?_
    · refine x_aload_nR (pc := 1871) (a := x1) 1 rfl rfl dL_law_1871 ?_
      refine x_aload_nR (pc := 1872) (a := x0) 0 rfl rfl dL_law_1872 ?_
      refine x_iload (pc := 1873) 4 rfl dL_law_1873 ?_
      refine x_iconst (pc := 1875) (v := 1) (by decide) dL_law_1875 ?_
      refine x_iadd (pc := 1876) dL_law_1876 ?_
      refine x_scrI (pc := 1877) dL_law_1877 ?_
      intro v345
      refine x_callV (pc := 1878) (As := [.int v345]) (rest := []) (lev' := 19) si_X0_209 (m_B_image h x1 v345) (fun z e => grd1 e) rfl rfl (by decide) (cat4 (Nat.le_of_ble_eq_true rfl)) dL_law_1878 (kI (fun v347 h346 => ?_)) xNo
      refine x_aload_nR (pc := 1881) (a := x2) 2 rfl rfl dL_law_1881 ?_
      refine x_aload_nR (pc := 1882) (a := x0) 0 rfl rfl dL_law_1882 ?_
      refine x_iload (pc := 1883) 4 rfl dL_law_1883 ?_
      refine x_iconst (pc := 1885) (v := 1) (by decide) dL_law_1885 ?_
      refine x_iadd (pc := 1886) dL_law_1886 ?_
      refine x_scrI (pc := 1887) dL_law_1887 ?_
      intro v348
      refine x_callV (pc := 1888) (As := [.int v348]) (rest := [.int v347]) (lev' := 2) si_X0_212 (m_M_image h346 x2 v348) (fun z e => grd1 e) rfl rfl (by decide) (cat4 (Nat.le_of_ble_eq_true rfl)) dL_law_1888 (kI (fun v350 h349 => ?_)) xNo
      refine x_icmp_eq (pc := 1891) 1946 (by decide) dL_law_1891 ?_ ?_
      · refine x_iinc (pc := 1946) (v := (6 : Int32)) (lv' := [(4, .int (x4 + (6 : Int32))), (0, .ref x0), (1, .ref x1), (2, .ref x2), (3, .ref x3)]) 4 rfl (by decide) (by decide) rfl dL_law_1946 ?_
        refine x_goto (pc := 1949) 23 (by decide) dL_law_1949 ?_
        refine Sim.lv [1, 2, 3, 4, 0] rfl ?_
        exact hr23 h349 x0 x1 x2 x3 (x4 + (6 : Int32))
      · refine x_iconst (pc := 1894) (v := 0) (by decide) dL_law_1894 ?_
        exact x_zret (pc := 1895) dL_law_1895
    refine x_sw (pc := 40) (v := 44) 1896 dL_law_40 rfl (by decide) (by decide) rfl (by decide) ?_ ?_
    · refine x_aload_nR (pc := 1896) (a := x1) 1 rfl rfl dL_law_1896 ?_
      refine x_aload_nR (pc := 1897) (a := x0) 0 rfl rfl dL_law_1897 ?_
      refine x_iload (pc := 1898) 4 rfl dL_law_1898 ?_
      refine x_iconst (pc := 1900) (v := 1) (by decide) dL_law_1900 ?_
      refine x_iadd (pc := 1901) dL_law_1901 ?_
      refine x_scrI (pc := 1902) dL_law_1902 ?_
      intro v351
      refine x_callV (pc := 1903) (As := [.int v351]) (rest := []) (lev' := 10) si_X0_213 (m_B_restore h x1 v351) (fun z e => grd1 e) rfl rfl (by decide) (cat4 (Nat.le_of_ble_eq_true rfl)) dL_law_1903 (kI (fun v353 h352 => ?_)) xNo
      refine x_aload_nR (pc := 1906) (a := x2) 2 rfl rfl dL_law_1906 ?_
      refine x_aload_nR (pc := 1907) (a := x0) 0 rfl rfl dL_law_1907 ?_
      refine x_iload (pc := 1908) 4 rfl dL_law_1908 ?_
      refine x_iconst (pc := 1910) (v := 1) (by decide) dL_law_1910 ?_
      refine x_iadd (pc := 1911) dL_law_1911 ?_
      refine x_scrI (pc := 1912) dL_law_1912 ?_
      intro v354
      refine x_callV (pc := 1913) (As := [.int v354]) (rest := [.int v353]) (lev' := 2) si_X0_216 (m_M_restore h352 x2 v354) (fun z e => grd1 e) rfl rfl (by decide) (cat4 (Nat.le_of_ble_eq_true rfl)) dL_law_1913 (kI (fun v356 h355 => ?_)) xNo
      refine x_icmp_eq (pc := 1916) 1946 (by decide) dL_law_1916 ?_ ?_
      · refine x_iinc (pc := 1946) (v := (6 : Int32)) (lv' := [(4, .int (x4 + (6 : Int32))), (0, .ref x0), (1, .ref x1), (2, .ref x2), (3, .ref x3)]) 4 rfl (by decide) (by decide) rfl dL_law_1946 ?_
        refine x_goto (pc := 1949) 23 (by decide) dL_law_1949 ?_
        refine Sim.lv [1, 2, 3, 4, 0] rfl ?_
        exact hr23 h355 x0 x1 x2 x3 (x4 + (6 : Int32))
      · refine x_iconst (pc := 1919) (v := 0) (by decide) dL_law_1919 ?_
        exact x_zret (pc := 1920) dL_law_1920
    refine x_sw (pc := 40) (v := 45) 1921 dL_law_40 rfl (by decide) (by decide) rfl (by decide) ?_ ?_
    · refine x_aload_nR (pc := 1921) (a := x1) 1 rfl rfl dL_law_1921 ?_
      refine x_aload_nR (pc := 1922) (a := x0) 0 rfl rfl dL_law_1922 ?_
      refine x_iload (pc := 1923) 4 rfl dL_law_1923 ?_
      refine x_iconst (pc := 1925) (v := 1) (by decide) dL_law_1925 ?_
      refine x_iadd (pc := 1926) dL_law_1926 ?_
      refine x_scrI (pc := 1927) dL_law_1927 ?_
      intro v357
      refine x_callV (pc := 1928) (As := [.int v357]) (rest := []) (lev' := 3) si_X0_217 (m_B_total h x1 v357) (fun z e => grd1 e) rfl rfl (by decide) (cat4 (Nat.le_of_ble_eq_true rfl)) dL_law_1928 (kI (fun v359 h358 => ?_)) xNo
      refine x_aload_nR (pc := 1931) (a := x2) 2 rfl rfl dL_law_1931 ?_
      refine x_aload_nR (pc := 1932) (a := x0) 0 rfl rfl dL_law_1932 ?_
      refine x_iload (pc := 1933) 4 rfl dL_law_1933 ?_
      refine x_iconst (pc := 1935) (v := 1) (by decide) dL_law_1935 ?_
      refine x_iadd (pc := 1936) dL_law_1936 ?_
      refine x_scrI (pc := 1937) dL_law_1937 ?_
      intro v360
      refine x_callV (pc := 1938) (As := [.int v360]) (rest := [.int v359]) (lev' := 3) si_X0_220 (m_M_total h358 x2 v360) (fun z e => grd1 e) rfl rfl (by decide) (cat4 (Nat.le_of_ble_eq_true rfl)) dL_law_1938 (kI (fun v362 h361 => ?_)) xNo
      refine x_icmp_eq (pc := 1941) 1946 (by decide) dL_law_1941 ?_ ?_
      · refine x_iinc (pc := 1946) (v := (6 : Int32)) (lv' := [(4, .int (x4 + (6 : Int32))), (0, .ref x0), (1, .ref x1), (2, .ref x2), (3, .ref x3)]) 4 rfl (by decide) (by decide) rfl dL_law_1946 ?_
        refine x_goto (pc := 1949) 23 (by decide) dL_law_1949 ?_
        refine Sim.lv [1, 2, 3, 4, 0] rfl ?_
        exact hr23 h361 x0 x1 x2 x3 (x4 + (6 : Int32))
      · refine x_iconst (pc := 1944) (v := 0) (by decide) dL_law_1944 ?_
        exact x_zret (pc := 1945) dL_law_1945
    refine x_swD (pc := 40) 1946 dL_law_40 (by decide) (by decide) ?_
    refine x_iinc (pc := 1946) (v := (6 : Int32)) (lv' := [(4, .int (x4 + (6 : Int32))), (0, .ref x0), (1, .ref x1), (2, .ref x2), (3, .ref x3)]) 4 rfl (by decide) (by decide) rfl dL_law_1946 ?_
    refine x_goto (pc := 1949) 23 (by decide) dL_law_1949 ?_
    refine Sim.lv [1, 2, 3, 4, 0] rfl ?_
    exact hr23 h x0 x1 x2 x3 (x4 + (6 : Int32))
set_option maxHeartbeats 4000000 in
theorem v_W_law_l23 : ∀ (n : Nat) (h : PH) (x0 : Nat) (x1 : Nat) (x2 : Nat) (x3 : Nat) (x4 : Int32), Sim Y_W_law h 23 [(0, .ref x0), (1, .ref x1), (2, .ref x2), (3, .ref x3), (4, .int x4)] [] (itr (c_W_law_l23) (fun _ _ _ _ _ _ => none) n h x0 x1 x2 x3 x4)
  | 0, h, x0, x1, x2, x3, x4 => Sim.none
  | n + 1, h, x0, x1, x2, x3, x4 => w_W_law_l23 _ (v_W_law_l23 n) h x0 x1 x2 x3 x4
set_option maxHeartbeats 4000000 in
theorem m_W_law (h : PH) (x0 : Nat) : Sim Y_W_law h 0 [(0, .ref x0)] [] (c_W_law h x0) := by
  unfold c_W_law
  refine x_new (pc := 0) ni_X0_8 dL_law_0 ?_
  intro a1 h2
  refine x_dup (pc := 3) rfl dL_law_3 ?_
  refine x_callI (pc := 4) (As := []) (rest := [.ref a1]) (lev' := 4) si_X0_26 (m_B_init h2 a1) rfl rfl (by decide) (cat4 (Nat.le_of_ble_eq_true rfl)) dL_law_4 (kV (fun h3 => ?_)) xNo
  refine x_astore_nR (pc := 7) (a := a1) (lv' := [(1, .ref a1), (0, .ref x0)]) rfl (by decide) rfl dL_law_7 ?_
  refine x_new (pc := 8) ni_X0_27 dL_law_8 ?_
  intro a4 h5
  refine x_dup (pc := 11) rfl dL_law_11 ?_
  refine x_callI (pc := 12) (As := []) (rest := [.ref a4]) (lev' := 1) si_X0_29 (m_M_init h5 a4) rfl rfl (by decide) (cat4 (Nat.le_of_ble_eq_true rfl)) dL_law_12 (kV (fun h6 => ?_)) xNo
  refine x_astore_nR (pc := 15) (a := a4) (lv' := [(2, .ref a4), (1, .ref a1), (0, .ref x0)]) rfl (by decide) rfl dL_law_15 ?_
  refine x_iconst (pc := 16) (v := 1) (by decide) dL_law_16 ?_
  refine x_newaL (pc := 17) dL_law_17 ?_
  intro a7 h8
  refine x_astore_nR (pc := 19) (a := a7) (lv' := [(3, .ref a7), (2, .ref a4), (1, .ref a1), (0, .ref x0)]) rfl (by decide) rfl dL_law_19 ?_
  refine x_iconst (pc := 20) (v := 0) (by decide) dL_law_20 ?_
  refine x_istore (pc := 21) (lv' := [(4, .int (0 : Int32)), (3, .ref a7), (2, .ref a4), (1, .ref a1), (0, .ref x0)]) (by decide) rfl dL_law_21 ?_
  refine Sim.lv [4, 3, 2, 1, 0] rfl ?_
  exact v_W_law_l23 FU h8 x0 a1 a4 a7 (0 : Int32)
