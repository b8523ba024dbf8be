/-! checks of the tables by the kernel (printed by chk.py) -/
set_option maxRecDepth 1000000
def am_l0_0 : List Nat := [0, 7, 15, 23, 33, 40, 340, 358, 374, 393, 410, 414, 419, 421, 424, 435, 447, 453, 458, 460, 465, 475, 477, 480, 485, 491, 497, 502, 504, 509, 519, 521, 524, 529, 535, 541, 546, 548, 553, 563]
def am_l0_1 : List Nat := [565, 568, 585, 603, 609, 614, 616, 621, 631, 633, 636, 653, 671, 677, 682, 684, 689, 699, 701, 704, 722, 732, 751, 762, 766, 771, 773, 776, 793, 811, 817, 822, 824, 829, 839, 841, 844, 855, 867, 873]
def am_l0_2 : List Nat := [878, 880, 885, 895, 897, 900, 918, 929, 948, 959, 965, 970, 972, 977, 987, 989, 992, 1008, 1012, 1013, 1016, 1034, 1038, 1039, 1042, 1046, 1051, 1053, 1056, 1074, 1085, 1104, 1115, 1121, 1126, 1128, 1133, 1143, 1145, 1148]
def am_l0_3 : List Nat := [1166, 1171, 1190, 1195, 1201, 1206, 1208, 1213, 1223, 1225, 1228, 1245, 1263, 1269, 1274, 1276, 1281, 1291, 1293, 1296, 1314, 1319, 1338, 1343, 1349, 1354, 1356, 1361, 1371, 1373, 1376, 1393, 1411, 1417, 1422, 1424, 1429, 1439, 1441, 1444]
def am_l0_4 : List Nat := [1462, 1467, 1486, 1491, 1497, 1502, 1504, 1509, 1519, 1521, 1524, 1541, 1559, 1565, 1570, 1572, 1577, 1587, 1589, 1592, 1610, 1621, 1640, 1651, 1657, 1662, 1664, 1669, 1679, 1681, 1684, 1695, 1707, 1713, 1718, 1720, 1725, 1735, 1737, 1740]
def am_l0_5 : List Nat := [1750, 1762, 1766, 1771, 1773, 1776, 1794, 1799, 1818, 1823, 1829, 1834, 1836, 1841, 1851, 1853, 1856, 1874, 1879, 1898, 1903, 1909, 1914, 1916, 1921, 1931, 1933, 1936, 1947, 1959, 1965, 1970, 1972, 1977, 1987, 1989, 1992, 2009, 2027, 2033]
def am_l0_6 : List Nat := [2038, 2040, 2045, 2055, 2057, 2060, 2071, 2083, 2089, 2094, 2096, 2101, 2111, 2113, 2116, 2134, 2139, 2158, 2163, 2169, 2174, 2176, 2181, 2191, 2193, 2196, 2207, 2219, 2225, 2230, 2232, 2237, 2247, 2249, 2252, 2269, 2287, 2293, 2298, 2300]
def am_l0_7 : List Nat := [2305, 2315, 2317, 2320, 2331, 2343, 2349, 2354, 2356, 2361, 2371, 2373, 2376, 2393, 2411, 2417, 2422, 2424, 2429, 2437, 2441, 2442, 2446, 2448, 2451, 2462, 2474, 2480, 2485, 2487, 2492, 2502, 2504, 2507, 2525, 2530, 2549, 2554, 2560, 2565]
def am_l0_8 : List Nat := [2567, 2572, 2582, 2584, 2587, 2598, 2610, 2616, 2621, 2623, 2628, 2638, 2640, 2643, 2660, 2678, 2684, 2689, 2691, 2696, 2706, 2708, 2711, 2722, 2734, 2740, 2745, 2747, 2752, 2762, 2764, 2767, 2784, 2802, 2808, 2813, 2815, 2820, 2830, 2832]
def am_l0_9 : List Nat := [2835, 2851, 2869, 2873, 2878, 2880, 2883, 2894, 2906, 2912, 2917, 2919, 2924, 2933, 2935, 2938, 2949, 2961, 2967, 2972, 2974, 2979, 2988, 2990, 2993, 3010, 3028, 3034, 3039, 3041, 3046, 3056, 3058, 3061, 3079, 3084, 3103, 3108, 3114, 3119]
def am_l0_10 : List Nat := [3121, 3126, 3136, 3138, 3141, 3159, 3164, 3183, 3188, 3194, 3199, 3201, 3206, 3216, 3218, 3221, 3239, 3244, 3263, 3268, 3274, 3279, 3281, 3286, 3296, 3298, 3301, 3318, 3336, 3342, 3347, 3349, 3354, 3364, 3366, 3369, 3380, 3392, 3398, 3403]
def am_l0_11 : List Nat := [3405, 3410, 3420, 3422, 3425, 3442, 3460, 3466, 3471, 3473, 3478, 3488, 3490, 3493, 3511, 3521, 3540, 3551, 3555, 3560, 3562, 3565, 3582, 3600, 3606, 3611, 3613, 3618, 3628, 3630, 3633, 3644, 3656, 3662, 3667, 3669, 3674, 3684, 3686, 3689]
def am_l0_12 : List Nat := [3700, 3712, 3718, 3723, 3725, 3730, 3740, 3742, 3745, 3756, 3768, 3774, 3779, 3781, 3786, 3796, 3798, 3801, 3818, 3836, 3842, 3847, 3849, 3854, 3864, 3866, 3869, 3880, 3892, 3898, 3903, 3905, 3910, 3920, 3922, 3925, 3930, 3936, 3942, 3947]
def am_l0_13 : List Nat := [3949, 3954, 3964, 3966, 3969, 3986, 4004, 4010, 4015, 4017, 4022, 4032, 4034, 4037, 4054, 4072, 4078, 4083, 4085, 4090, 4098, 4102, 4103, 4107, 4109, 4112, 4130, 4141, 4160, 4171, 4177, 4182, 4184, 4189, 4199, 4201, 4204, 4222, 4227, 4246]
def am_l0_14 : List Nat := [4251, 4257, 4262, 4264, 4269, 4279, 4281, 4284, 4301, 4319, 4325, 4330, 4332, 4337, 4346, 4348, 4351, 4362, 4374, 4380, 4385, 4387, 4392, 4401, 4403, 4406, 4411, 4417, 4423, 4428, 4430, 4435, 4445, 4447, 4450, 4468, 4473, 4492, 4497, 4503]
def am_l0_15 : List Nat := [4508, 4510, 4515, 4525, 4527, 4530, 4541, 4553, 4559, 4564, 4566, 4571, 4581, 4583, 4586, 4604, 4609, 4628, 4633, 4639, 4644, 4646, 4651, 4661, 4663, 4666, 4677, 4689, 4695, 4700, 4702, 4707, 4716, 4718, 4721, 4739, 4747, 4765, 4773, 4776]
def am_l0_16 : List Nat := [4778, 4788, 4798, 4801, 4803, 4814, 4826, 4832, 4837, 4839, 4844, 4854, 4856, 4859, 4869, 4879, 4882, 4884, 4894, 4904, 4907, 4909, 4915]
def am_l17_0 : List Nat := [0, 17, 26, 35, 44, 53, 61, 69, 78, 87, 96, 105, 114, 123, 132, 141, 150, 159, 168, 177, 186, 195, 204, 213, 222, 231, 240, 249, 258, 267, 276, 285, 294, 303, 312, 321, 330, 339, 348, 357]
def am_l17_1 : List Nat := [366, 375, 384, 393, 402, 410, 418, 427, 435, 443, 451, 459, 467, 475, 484, 493, 502, 510, 518, 526, 534, 542, 550, 559, 567, 575, 582, 590, 599, 608, 617, 626, 635, 644, 653, 660, 668, 676, 684, 692]
def am_l17_2 : List Nat := [700, 708, 716, 724, 732, 741, 750, 759, 770, 778, 786, 794, 802, 810, 818, 826, 834, 842, 850, 858, 867, 876, 885, 894, 903, 912, 921, 929, 938, 947, 956, 965, 974, 983, 992, 1001, 1010, 1019, 1028, 1037]
def am_l17_3 : List Nat := [1046, 1055, 1064, 1073, 1082, 1091]
def am_l32_0 : List Nat := [0, 6, 13, 20, 28, 38, 192, 208, 211, 214, 224, 227, 230, 240, 244, 245, 248, 251, 256, 259, 262, 268, 271, 274, 284, 287, 290, 300, 303, 307, 317, 320, 324, 334, 337, 341, 351, 354, 358, 367]
def am_l32_1 : List Nat := [374]
def am_l74_0 : List Nat := [0, 1, 116, 121, 124, 128, 132, 135, 139, 143, 146, 150, 155, 158, 162, 170, 173, 177, 183, 186, 190, 195, 198, 202, 207, 210, 214, 222, 225, 229, 234, 237, 241, 246, 249, 253, 259, 262, 266, 271]
def am_l74_1 : List Nat := [274, 278, 286, 289, 293, 298, 301, 305, 311, 314, 318, 323, 326, 330, 335, 338, 342, 351]
def am_l142_0 : List Nat := [0, 15, 25, 35, 43, 54, 57, 73, 76, 80, 86, 94, 99, 104, 109, 116, 120, 129, 130, 137, 141, 142, 150, 163, 169, 175, 176, 183, 186, 189, 194, 202, 203, 212, 213, 219, 233, 234, 241, 253]
def am_l142_1 : List Nat := [254, 258, 264]
def am_l184_0 : List Nat := [0, 1, 12, 21, 32, 38, 44, 46, 65, 70, 77, 82, 90, 93, 96, 99, 102, 111, 115, 120, 136, 137, 140, 151, 152, 159, 161, 164, 169, 172, 175, 179, 182, 185, 190, 195, 204, 207, 214, 223]
def am_l184_1 : List Nat := [237, 241, 246, 248, 254, 260]
def am_l190_0 : List Nat := [0, 7, 10, 21, 23, 31, 38, 41, 47, 54, 61, 64, 67, 68, 70, 73, 74, 77, 80, 83, 100, 103, 115, 135, 138, 142, 145, 148, 151, 155, 156, 159, 165, 171, 178, 186, 193, 195, 206, 219]
def am_l190_1 : List Nat := [222, 225, 238, 241, 253, 262, 268]
def am_l207_0 : List Nat := [0, 5, 14, 17, 24, 27, 31, 32, 35, 44, 47, 51, 52, 55, 65, 69, 70, 73, 81, 92, 95, 109, 120, 128, 131, 134, 138, 143, 149, 166, 170, 178, 186, 195, 207, 235, 249, 256, 262, 270]
def am_l207_1 : List Nat := [280]
def am_l220_0 : List Nat := [0, 1, 96, 108, 111, 116, 120, 124, 128, 132, 136, 146, 149, 154, 158, 168, 172, 179, 183, 184, 187, 190, 200, 204, 212, 216, 222, 226, 236, 240, 245, 249, 254, 257, 262, 266, 274, 278, 283, 287]
def am_l220_1 : List Nat := [292, 296, 302, 306, 311, 315, 326]
def am_l297_0 : List Nat := [0, 1, 92, 100, 104, 109, 113, 119, 123, 128, 132, 138, 141, 146, 150, 158, 162, 170, 174, 180, 184, 189, 193, 203, 206, 211, 215, 220, 224, 228, 232, 242, 246, 251, 255, 259, 263, 271, 275, 280]
def am_l297_1 : List Nat := [284, 290, 291]
def am_l317_0 : List Nat := [0, 8, 11, 15, 24, 28, 29, 39, 41, 55, 59, 67, 80, 88, 97, 100, 119, 131, 134, 137, 140, 145, 159, 167, 177, 180, 181, 189, 193, 194, 201, 204, 228, 233, 235, 246, 255, 259, 260, 267]
def am_l317_1 : List Nat := [270, 282, 284, 309, 318, 326, 332]
def am_l332_0 : List Nat := [0, 6, 9, 13, 20, 23, 30, 33, 37, 38, 48, 58, 62, 72, 76, 77, 80, 87, 89, 93, 104, 115, 135, 147, 150, 155, 161, 184, 188, 189, 199, 201, 212, 221, 247, 257, 259, 284, 287, 308]
def am_l332_1 : List Nat := [313, 319, 328]
def am_l454_0 : List Nat := [0, 2, 7, 16, 21, 32, 40, 43, 65, 70, 76, 82, 84, 89, 91, 96, 100, 106, 109, 113, 117, 124, 133, 136, 139, 145, 148, 155, 159, 166, 169, 174, 178, 187, 211, 216, 222, 232, 233, 240]
def am_l454_1 : List Nat := [246, 252, 258]
def am_lb_0_0_0 (n : Nat) : List Nat := bif Nat.blt n 1 then am_l0_0 ++ (am_l0_1 ++ (am_l0_2 ++ (am_l0_3 ++ (am_l0_4 ++ (am_l0_5 ++ (am_l0_6 ++ (am_l0_7 ++ (am_l0_8 ++ (am_l0_9 ++ (am_l0_10 ++ (am_l0_11 ++ (am_l0_12 ++ (am_l0_13 ++ (am_l0_14 ++ (am_l0_15 ++ (am_l0_16)))))))))))))))) else [0, 12, 23]
def am_lb_0_0_1 (n : Nat) : List Nat := bif Nat.blt n 3 then [0, 16] else [0, 12, 23, 34, 45, 56, 67, 77, 87, 97, 106, 117, 128, 139, 150, 161, 172, 180, 187, 197, 206, 215, 225]
def am_lb_0_0_2 (n : Nat) : List Nat := bif Nat.blt n 5 then [0] else [0, 17, 25, 34, 43, 52, 61, 70, 79, 88, 97, 106, 115]
def am_lb_0_0_3 (n : Nat) : List Nat := bif Nat.blt n 7 then [0, 15, 23, 31, 38, 45] else [0, 18, 27, 35, 43, 52, 61]
def am_lb_0_0_4 (n : Nat) : List Nat := bif Nat.blt n 9 then [0, 15, 24, 33, 42, 51, 60, 69, 78] else [0, 16, 24]
def am_lb_0_0 (n : Nat) : List Nat := bif Nat.blt n 4 then bif Nat.blt n 2 then am_lb_0_0_0 n else am_lb_0_0_1 n else bif Nat.blt n 6 then am_lb_0_0_2 n else bif Nat.blt n 8 then am_lb_0_0_3 n else am_lb_0_0_4 n
def am_lb_0_1_0 (n : Nat) : List Nat := bif Nat.blt n 11 then [0, 16, 25, 34, 43] else [0, 16, 26, 36, 45, 54, 63, 70, 78, 86, 94]
def am_lb_0_1_1 (n : Nat) : List Nat := bif Nat.blt n 13 then [0, 12, 21, 32, 40, 49, 56, 62, 74, 81] else [0, 15]
def am_lb_0_1_2 (n : Nat) : List Nat := bif Nat.blt n 15 then [0, 15, 23, 31, 39, 48, 57, 66, 75, 84, 93, 102, 110] else [0, 17, 26, 35]
def am_lb_0_1_3 (n : Nat) : List Nat := bif Nat.blt n 17 then [0, 17, 26, 34] else am_l17_0 ++ (am_l17_1 ++ (am_l17_2 ++ (am_l17_3)))
def am_lb_0_1_4 (n : Nat) : List Nat := bif Nat.blt n 19 then [0, 5, 8] else [0, 1, 72, 80, 87, 90, 100, 101, 102, 109, 111, 116, 121, 126, 131, 139, 144, 149, 157, 165, 173, 180, 183, 193, 194, 195]
def am_lb_0_1 (n : Nat) : List Nat := bif Nat.blt n 14 then bif Nat.blt n 12 then am_lb_0_1_0 n else am_lb_0_1_1 n else bif Nat.blt n 16 then am_lb_0_1_2 n else bif Nat.blt n 18 then am_lb_0_1_3 n else am_lb_0_1_4 n
def am_lb_0_2_0 (n : Nat) : List Nat := bif Nat.blt n 21 then [0, 7, 11, 12] else [0, 6, 76, 81, 88, 100, 101, 102, 107, 112, 117, 122, 127, 132, 137, 142, 147, 152, 157, 164, 171, 172, 173]
def am_lb_0_2_1 (n : Nat) : List Nat := bif Nat.blt n 23 then [0, 5, 15, 21, 28, 31, 37, 44, 49, 52] else [0]
def am_lb_0_2_2 (n : Nat) : List Nat := bif Nat.blt n 25 then [0, 1, 56, 64, 72, 80, 88, 96, 104, 112, 120] else [0, 6, 64, 69, 74, 79, 84, 89, 94, 99, 104, 109, 114, 119]
def am_lb_0_2_3 (n : Nat) : List Nat := bif Nat.blt n 27 then [0, 7, 12, 15, 18] else [0, 9, 12, 15, 23, 27, 28, 31, 49, 58, 63, 68, 73, 79]
def am_lb_0_2_4 (n : Nat) : List Nat := bif Nat.blt n 29 then [0, 5, 10, 14, 15] else [0, 4, 12]
def am_lb_0_2 (n : Nat) : List Nat := bif Nat.blt n 24 then bif Nat.blt n 22 then am_lb_0_2_0 n else am_lb_0_2_1 n else bif Nat.blt n 26 then am_lb_0_2_2 n else bif Nat.blt n 28 then am_lb_0_2_3 n else am_lb_0_2_4 n
def am_lb_0_3_0 (n : Nat) : List Nat := bif Nat.blt n 31 then [0, 4, 12] else [0, 4, 8, 21]
def am_lb_0_3_1 (n : Nat) : List Nat := bif Nat.blt n 33 then am_l32_0 ++ (am_l32_1) else [0, 12, 18, 27, 30, 31]
def am_lb_0_3_2 (n : Nat) : List Nat := bif Nat.blt n 35 then [0] else [0, 5, 11, 31, 47]
def am_lb_0_3_3 (n : Nat) : List Nat := bif Nat.blt n 37 then [0, 7, 10, 16, 19, 30, 33, 42, 45, 49, 50, 53, 65] else [0, 7, 15, 25, 29, 30, 33, 49, 73]
def am_lb_0_3_4 (n : Nat) : List Nat := bif Nat.blt n 39 then [0, 3, 12, 23, 34, 45, 48, 54] else [0, 5, 11, 15, 20, 24, 27, 36, 39, 46, 49, 53, 54, 57, 61, 68, 71, 75, 76, 83, 86, 90, 92]
def am_lb_0_3 (n : Nat) : List Nat := bif Nat.blt n 34 then bif Nat.blt n 32 then am_lb_0_3_0 n else am_lb_0_3_1 n else bif Nat.blt n 36 then am_lb_0_3_2 n else bif Nat.blt n 38 then am_lb_0_3_3 n else am_lb_0_3_4 n
def am_lb_0_4_0 (n : Nat) : List Nat := bif Nat.blt n 41 then [0, 9, 15, 18, 26] else [0, 4, 12]
def am_lb_0_4_1 (n : Nat) : List Nat := bif Nat.blt n 43 then [0, 12, 15] else [0, 6, 9, 17, 20, 24, 25, 28]
def am_lb_0_4_2 (n : Nat) : List Nat := bif Nat.blt n 45 then [0, 5, 10, 13, 16, 18, 23, 27, 32, 33, 37, 45, 46, 59, 71] else [0, 9, 12]
def am_lb_0_4_3 (n : Nat) : List Nat := bif Nat.blt n 47 then [0, 8, 12, 13] else [0, 4, 12]
def am_lb_0_4_4 (n : Nat) : List Nat := bif Nat.blt n 49 then [0, 5, 12, 22, 25, 34, 37, 41, 42, 45, 50, 53, 56, 66, 70, 71, 74, 96] else [0, 16]
def am_lb_0_4 (n : Nat) : List Nat := bif Nat.blt n 44 then bif Nat.blt n 42 then am_lb_0_4_0 n else am_lb_0_4_1 n else bif Nat.blt n 46 then am_lb_0_4_2 n else bif Nat.blt n 48 then am_lb_0_4_3 n else am_lb_0_4_4 n
def am_lb_0_5_0 (n : Nat) : List Nat := bif Nat.blt n 51 then [0, 5, 12, 19, 26, 33, 37, 38, 41, 46, 50, 53, 57, 60, 65, 70, 72, 74, 77, 81, 94, 101, 104, 113, 121, 126, 128, 131, 144] else [0, 9, 12]
def am_lb_0_5_1 (n : Nat) : List Nat := bif Nat.blt n 53 then [0, 5, 9, 14] else [0, 12, 16, 17, 20]
def am_lb_0_5_2 (n : Nat) : List Nat := bif Nat.blt n 55 then [0, 5, 6, 9, 10, 17, 18, 25] else [0]
def am_lb_0_5_3 (n : Nat) : List Nat := bif Nat.blt n 57 then [0, 2, 15, 27, 30, 38, 42, 45, 67, 90] else [0, 7, 32]
def am_lb_0_5_4 (n : Nat) : List Nat := bif Nat.blt n 59 then [0, 16, 28] else [0, 5, 7, 10, 12, 26]
def am_lb_0_5 (n : Nat) : List Nat := bif Nat.blt n 54 then bif Nat.blt n 52 then am_lb_0_5_0 n else am_lb_0_5_1 n else bif Nat.blt n 56 then am_lb_0_5_2 n else bif Nat.blt n 58 then am_lb_0_5_3 n else am_lb_0_5_4 n
def am_lb_0_6_0 (n : Nat) : List Nat := bif Nat.blt n 61 then [0, 11, 16] else [0, 19, 24]
def am_lb_0_6_1 (n : Nat) : List Nat := bif Nat.blt n 63 then [0, 16] else [0, 6, 15, 26, 37, 48, 54, 71, 75, 81, 87, 92, 99]
def am_lb_0_6_2 (n : Nat) : List Nat := bif Nat.blt n 65 then [0] else [0, 1, 5, 14, 16, 20, 36, 38, 61, 63, 86, 90, 91]
def am_lb_0_6_3 (n : Nat) : List Nat := bif Nat.blt n 67 then [0, 4, 13, 23, 29, 30, 38] else [0, 5, 7, 14, 18, 19, 22]
def am_lb_0_6_4 (n : Nat) : List Nat := bif Nat.blt n 69 then [0, 5, 14, 17, 25, 28, 37, 40, 44, 45, 48, 58, 62, 63, 66, 71, 81] else [0, 16, 42, 46, 51]
def am_lb_0_6 (n : Nat) : List Nat := bif Nat.blt n 64 then bif Nat.blt n 62 then am_lb_0_6_0 n else am_lb_0_6_1 n else bif Nat.blt n 66 then am_lb_0_6_2 n else bif Nat.blt n 68 then am_lb_0_6_3 n else am_lb_0_6_4 n
def am_lb_0_7_0 (n : Nat) : List Nat := bif Nat.blt n 71 then [0, 16] else [0, 5, 14, 17, 24, 27, 36, 39, 43, 44, 47, 49, 56, 65, 70, 78, 82, 83, 86]
def am_lb_0_7_1 (n : Nat) : List Nat := bif Nat.blt n 73 then [0, 16, 20, 21, 24, 32, 40, 48, 57, 66] else [0, 3, 7, 30, 36]
def am_lb_0_7_2 (n : Nat) : List Nat := bif Nat.blt n 75 then am_l74_0 ++ (am_l74_1) else [0, 7, 10, 22]
def am_lb_0_7_3 (n : Nat) : List Nat := bif Nat.blt n 77 then [0, 5, 12, 19, 24, 41, 45, 46, 54, 59, 69, 73, 74, 79, 86, 91, 116, 118, 137, 142, 144, 169] else [0, 5, 12, 33]
def am_lb_0_7_4 (n : Nat) : List Nat := bif Nat.blt n 79 then [0, 16, 19] else [0, 5, 14, 17, 18, 21, 31, 35, 36, 39, 52]
def am_lb_0_7 (n : Nat) : List Nat := bif Nat.blt n 74 then bif Nat.blt n 72 then am_lb_0_7_0 n else am_lb_0_7_1 n else bif Nat.blt n 76 then am_lb_0_7_2 n else bif Nat.blt n 78 then am_lb_0_7_3 n else am_lb_0_7_4 n
def am_lb_0 (n : Nat) : List Nat := bif Nat.blt n 40 then bif Nat.blt n 20 then bif Nat.blt n 10 then am_lb_0_0 n else am_lb_0_1 n else bif Nat.blt n 30 then am_lb_0_2 n else am_lb_0_3 n else bif Nat.blt n 60 then bif Nat.blt n 50 then am_lb_0_4 n else am_lb_0_5 n else bif Nat.blt n 70 then am_lb_0_6 n else am_lb_0_7 n
def am_lb_1_0_0 (n : Nat) : List Nat := bif Nat.blt n 81 then [0, 14, 17] else [0, 11, 14, 25, 36, 40, 41]
def am_lb_1_0_1 (n : Nat) : List Nat := bif Nat.blt n 83 then [0] else [0, 15, 23, 25, 34, 42, 44, 48, 55, 79, 85, 97, 100, 112, 115, 121, 129, 158]
def am_lb_1_0_2 (n : Nat) : List Nat := bif Nat.blt n 85 then [0, 3, 12, 28, 31, 35, 36, 43, 46, 53, 70, 83, 86, 89, 96, 99, 102, 111, 135, 138, 147, 150, 156, 174, 182, 190, 210, 226, 229, 247, 253, 259, 265] else [0, 8, 12, 29, 38, 44, 45]
def am_lb_1_0_3 (n : Nat) : List Nat := bif Nat.blt n 87 then [0, 3, 12, 27, 30, 33, 37, 40, 43, 49, 56, 60, 62, 68, 74] else [0, 4, 8, 16]
def am_lb_1_0_4 (n : Nat) : List Nat := bif Nat.blt n 89 then [0, 9, 15, 20, 22, 28, 36, 39, 44, 45] else [0, 1, 44, 46, 48, 50, 52]
def am_lb_1_0 (n : Nat) : List Nat := bif Nat.blt n 84 then bif Nat.blt n 82 then am_lb_1_0_0 n else am_lb_1_0_1 n else bif Nat.blt n 86 then am_lb_1_0_2 n else bif Nat.blt n 88 then am_lb_1_0_3 n else am_lb_1_0_4 n
def am_lb_1_1_0 (n : Nat) : List Nat := bif Nat.blt n 91 then [0, 1, 28, 36, 45, 46, 47, 62, 68, 69, 70, 83, 92, 93, 94, 103, 109, 110] else [0, 3, 12, 27, 33, 36, 40, 47, 51, 60, 64, 66, 72]
def am_lb_1_1_1 (n : Nat) : List Nat := bif Nat.blt n 93 then [0, 3, 12, 32, 36, 37, 44, 50, 55, 58, 67, 73, 79, 97, 102, 119, 127, 150, 156] else [0, 7, 15, 40, 50, 53, 57, 58]
def am_lb_1_1_2 (n : Nat) : List Nat := bif Nat.blt n 95 then [0, 7, 10, 18, 21, 37, 40, 44, 45, 48, 60, 64, 65, 68, 101, 104] else [0, 15, 34]
def am_lb_1_1_3 (n : Nat) : List Nat := bif Nat.blt n 97 then [0, 5, 11, 14, 20, 23, 27, 31, 32, 35, 41, 52, 55, 58, 70, 74, 75, 78, 83, 85, 88, 107, 122, 126] else [0, 5, 7, 13, 17, 18, 21, 31, 40, 47, 54, 57, 67, 85, 93, 104, 114, 117, 123]
def am_lb_1_1_4 (n : Nat) : List Nat := bif Nat.blt n 99 then [0, 9, 12] else [0, 8, 17, 21, 31, 38, 46, 51, 58, 61, 68, 74, 78, 83, 84]
def am_lb_1_1 (n : Nat) : List Nat := bif Nat.blt n 94 then bif Nat.blt n 92 then am_lb_1_1_0 n else am_lb_1_1_1 n else bif Nat.blt n 96 then am_lb_1_1_2 n else bif Nat.blt n 98 then am_lb_1_1_3 n else am_lb_1_1_4 n
def am_lb_1_2_0 (n : Nat) : List Nat := bif Nat.blt n 101 then [0, 4, 9, 13, 19, 20, 28, 29, 32, 44] else [0, 4, 7]
def am_lb_1_2_1 (n : Nat) : List Nat := bif Nat.blt n 103 then [0, 3, 12, 23, 34, 45, 63, 69] else [0, 5, 11, 17, 20, 23, 25, 31, 35, 36, 39, 41, 49, 61, 63, 73, 87]
def am_lb_1_2_2 (n : Nat) : List Nat := bif Nat.blt n 105 then [0, 8, 11, 20, 24, 25, 28, 50] else [0]
def am_lb_1_2_3 (n : Nat) : List Nat := bif Nat.blt n 107 then [0, 5, 10, 13, 16, 24, 29, 31, 51, 68] else [0, 5, 8, 10, 29, 33, 36, 40]
def am_lb_1_2_4 (n : Nat) : List Nat := bif Nat.blt n 109 then [0, 2, 7, 11, 16, 17, 20, 27, 36, 41, 49, 56, 59, 62, 66, 67, 75, 80, 82, 88, 95, 100, 104, 109, 110, 113, 117, 124, 125, 131, 140, 167, 173, 179] else [0, 8, 16, 20, 21]
def am_lb_1_2 (n : Nat) : List Nat := bif Nat.blt n 104 then bif Nat.blt n 102 then am_lb_1_2_0 n else am_lb_1_2_1 n else bif Nat.blt n 106 then am_lb_1_2_2 n else bif Nat.blt n 108 then am_lb_1_2_3 n else am_lb_1_2_4 n
def am_lb_1_3_0 (n : Nat) : List Nat := bif Nat.blt n 111 then [0, 9, 19, 23, 42, 65, 76, 81, 90, 93, 96, 105, 126, 129, 132, 155, 166, 168, 174, 185, 199, 208, 212, 217, 221] else [0, 2, 10, 16]
def am_lb_1_3_1 (n : Nat) : List Nat := bif Nat.blt n 113 then [0, 6, 10, 11] else [0, 4, 7, 15, 20, 26, 35, 44, 64, 67, 70, 73, 93, 111, 114, 117, 126, 137, 148, 154, 159, 166, 172, 178]
def am_lb_1_3_2 (n : Nat) : List Nat := bif Nat.blt n 115 then [0, 21] else [0, 6, 14, 21, 44, 53, 56, 59, 65, 68, 72, 91, 108]
def am_lb_1_3_3 (n : Nat) : List Nat := bif Nat.blt n 117 then [0, 4, 12, 30, 33, 36, 41, 47, 56, 62, 64, 70] else [0, 8, 11, 19, 22, 30, 33, 37, 38, 41, 53, 57, 58, 61, 85]
def am_lb_1_3_4 (n : Nat) : List Nat := bif Nat.blt n 119 then [0] else [0, 5, 10, 13, 16, 21, 25, 27, 32, 36, 41, 46, 50, 67, 71, 98, 104, 122, 125, 129]
def am_lb_1_3 (n : Nat) : List Nat := bif Nat.blt n 114 then bif Nat.blt n 112 then am_lb_1_3_0 n else am_lb_1_3_1 n else bif Nat.blt n 116 then am_lb_1_3_2 n else bif Nat.blt n 118 then am_lb_1_3_3 n else am_lb_1_3_4 n
def am_lb_1_4_0 (n : Nat) : List Nat := bif Nat.blt n 121 then [0, 4, 9, 13, 19, 20, 31] else [0, 6]
def am_lb_1_4_1 (n : Nat) : List Nat := bif Nat.blt n 123 then [0, 5, 10, 13, 16, 23, 27, 28, 31, 39, 48, 58, 68, 78, 89, 92, 95, 99, 104, 110, 125, 129, 137, 151, 160, 188, 194, 201] else [0, 12, 17, 24, 29, 34, 43, 46, 52, 54, 57, 66, 70, 75, 80, 97, 98, 101, 107, 115, 121, 126, 130, 131]
def am_lb_1_4_2 (n : Nat) : List Nat := bif Nat.blt n 125 then [0, 6, 15, 26, 33, 42, 50, 64, 67, 71, 76, 85, 96, 118, 130, 136] else [0, 1, 4, 8, 11, 13, 17, 21, 25, 28, 29, 56, 80]
def am_lb_1_4_3 (n : Nat) : List Nat := bif Nat.blt n 127 then [0, 7, 27, 46] else [0, 16]
def am_lb_1_4_4 (n : Nat) : List Nat := bif Nat.blt n 129 then [0, 7, 10, 17, 20, 24, 25, 28, 38, 42, 43, 46, 69] else [0, 15, 25, 35]
def am_lb_1_4 (n : Nat) : List Nat := bif Nat.blt n 124 then bif Nat.blt n 122 then am_lb_1_4_0 n else am_lb_1_4_1 n else bif Nat.blt n 126 then am_lb_1_4_2 n else bif Nat.blt n 128 then am_lb_1_4_3 n else am_lb_1_4_4 n
def am_lb_1_5_0 (n : Nat) : List Nat := bif Nat.blt n 131 then [0, 5, 12, 22, 25, 29, 32, 36, 39, 43, 50, 54, 57, 66, 68, 71, 76, 88, 101, 113, 126, 130, 131, 134, 139, 141, 146, 154, 159] else [0, 11, 14, 16, 22, 36, 41, 55, 64, 70, 74, 82, 89, 104, 114, 128, 136, 142]
def am_lb_1_5_1 (n : Nat) : List Nat := bif Nat.blt n 133 then [0, 7, 10, 14, 15, 18, 29] else [0, 5, 9, 27, 31, 37, 50, 59, 63]
def am_lb_1_5_2 (n : Nat) : List Nat := bif Nat.blt n 135 then [0, 9, 20, 24, 30, 38, 43, 50, 60, 66, 69, 75, 98, 107, 113, 123] else [0, 9, 17, 28, 33, 36, 57, 60, 72, 76, 77, 90, 98, 103, 109, 113, 121, 129]
def am_lb_1_5_3 (n : Nat) : List Nat := bif Nat.blt n 137 then [0, 4, 9, 17, 20, 23, 27, 28, 36] else [0]
def am_lb_1_5_4 (n : Nat) : List Nat := bif Nat.blt n 139 then [0, 5, 9, 14, 22, 27, 37, 48, 53, 54, 57, 61, 64, 67, 75, 88] else [0, 11, 27, 28]
def am_lb_1_5 (n : Nat) : List Nat := bif Nat.blt n 134 then bif Nat.blt n 132 then am_lb_1_5_0 n else am_lb_1_5_1 n else bif Nat.blt n 136 then am_lb_1_5_2 n else bif Nat.blt n 138 then am_lb_1_5_3 n else am_lb_1_5_4 n
def am_lb_1_6_0 (n : Nat) : List Nat := bif Nat.blt n 141 then [0, 6, 12, 18, 24, 30, 34, 38, 42, 43] else [0, 4, 12, 24, 28, 29, 37]
def am_lb_1_6_1 (n : Nat) : List Nat := bif Nat.blt n 143 then am_l142_0 ++ (am_l142_1) else [0, 5, 20, 34, 40, 50, 58, 61, 64, 72, 78]
def am_lb_1_6_2 (n : Nat) : List Nat := bif Nat.blt n 145 then [0, 25, 33, 43] else [0, 2, 7, 11, 17, 24, 30, 37, 42, 47, 50, 56, 62, 68, 76, 82, 87, 90, 105, 106, 109, 117, 121, 127, 133]
def am_lb_1_6_3 (n : Nat) : List Nat := bif Nat.blt n 147 then [0, 4, 6, 9, 13, 22, 23, 32, 37, 43, 46, 52] else [0, 11]
def am_lb_1_6_4 (n : Nat) : List Nat := bif Nat.blt n 149 then [0, 10, 16, 34, 39, 42, 55, 65, 73, 78, 89, 97, 110, 112, 118, 136] else [0, 5, 16, 21, 24]
def am_lb_1_6 (n : Nat) : List Nat := bif Nat.blt n 144 then bif Nat.blt n 142 then am_lb_1_6_0 n else am_lb_1_6_1 n else bif Nat.blt n 146 then am_lb_1_6_2 n else bif Nat.blt n 148 then am_lb_1_6_3 n else am_lb_1_6_4 n
def am_lb_1_7_0 (n : Nat) : List Nat := bif Nat.blt n 151 then [0, 4, 9, 14, 15, 20, 35, 42, 57, 64, 79, 86] else [0, 6, 12, 19, 26, 38, 46, 51, 57, 78]
def am_lb_1_7_1 (n : Nat) : List Nat := bif Nat.blt n 153 then [0, 4, 8, 16] else [0, 12, 19, 22, 30, 34, 41, 44, 50, 55, 64, 68, 83, 90, 93, 104, 114, 119]
def am_lb_1_7_2 (n : Nat) : List Nat := bif Nat.blt n 155 then [0, 5, 9, 16, 19, 30, 43, 51, 56, 60, 65, 73, 83, 92, 101, 104, 109, 115, 118, 124, 148, 154] else [0, 11, 13, 16, 23, 47, 49, 55]
def am_lb_1_7_3 (n : Nat) : List Nat := bif Nat.blt n 157 then [0, 11, 17, 37, 60, 71] else [0, 16]
def am_lb_1_7_4 (n : Nat) : List Nat := bif Nat.blt n 159 then [0, 12, 15] else [0, 1, 68, 76, 79, 83, 91, 94, 98, 104, 107, 111, 116, 119, 123, 128, 131, 135, 140, 143, 147, 151, 154, 158, 163, 166, 170, 174, 177, 181, 189, 192, 196, 201, 204, 208, 214, 217, 218]
def am_lb_1_7 (n : Nat) : List Nat := bif Nat.blt n 154 then bif Nat.blt n 152 then am_lb_1_7_0 n else am_lb_1_7_1 n else bif Nat.blt n 156 then am_lb_1_7_2 n else bif Nat.blt n 158 then am_lb_1_7_3 n else am_lb_1_7_4 n
def am_lb_1 (n : Nat) : List Nat := bif Nat.blt n 120 then bif Nat.blt n 100 then bif Nat.blt n 90 then am_lb_1_0 n else am_lb_1_1 n else bif Nat.blt n 110 then am_lb_1_2 n else am_lb_1_3 n else bif Nat.blt n 140 then bif Nat.blt n 130 then am_lb_1_4 n else am_lb_1_5 n else bif Nat.blt n 150 then am_lb_1_6 n else am_lb_1_7 n
def am_lb_2_0_0 (n : Nat) : List Nat := bif Nat.blt n 161 then [0, 5, 7, 13, 17, 18, 21, 28, 36, 51, 58, 61, 67, 71] else [0, 12, 15]
def am_lb_2_0_1 (n : Nat) : List Nat := bif Nat.blt n 163 then [0, 4, 12, 29, 37] else [0, 4, 9, 10]
def am_lb_2_0_2 (n : Nat) : List Nat := bif Nat.blt n 165 then [0, 5, 11, 19, 22, 30, 33, 41, 45, 46, 49, 60, 63, 73, 77, 78, 81, 86, 88, 91, 115, 120, 135, 142, 146] else [0, 15]
def am_lb_2_0_3 (n : Nat) : List Nat := bif Nat.blt n 167 then [0, 6, 9, 22, 32, 36, 37, 40, 64, 68, 77, 104, 125] else [0, 18, 27, 36, 45, 52, 56, 61, 67, 70, 76, 81, 90, 106, 120, 124, 130, 136, 147, 155]
def am_lb_2_0_4 (n : Nat) : List Nat := bif Nat.blt n 169 then [0, 9, 17, 30, 47, 54, 70, 77] else [0, 5, 9, 16, 19, 30, 43, 51, 55, 60, 68, 80, 82, 85, 90]
def am_lb_2_0 (n : Nat) : List Nat := bif Nat.blt n 164 then bif Nat.blt n 162 then am_lb_2_0_0 n else am_lb_2_0_1 n else bif Nat.blt n 166 then am_lb_2_0_2 n else bif Nat.blt n 168 then am_lb_2_0_3 n else am_lb_2_0_4 n
def am_lb_2_1_0 (n : Nat) : List Nat := bif Nat.blt n 171 then [0, 3, 12, 21, 24, 32, 38] else [0, 16, 24, 32, 40, 48]
def am_lb_2_1_1 (n : Nat) : List Nat := bif Nat.blt n 173 then [0, 12, 15, 29, 33, 34, 37, 47] else [0, 20, 24, 34]
def am_lb_2_1_2 (n : Nat) : List Nat := bif Nat.blt n 175 then [0, 5, 12, 33] else [0, 11]
def am_lb_2_1_3 (n : Nat) : List Nat := bif Nat.blt n 177 then [0, 5, 8, 21, 30, 39, 43, 44, 47, 70, 78, 96, 98, 106, 129, 152, 160] else [0, 15, 26, 30, 37, 40, 45, 48, 53, 56]
def am_lb_2_1_4 (n : Nat) : List Nat := bif Nat.blt n 179 then [0, 5, 9, 16, 19, 30, 43, 47, 52, 60, 70, 79, 88, 91, 96, 102, 127, 148, 155, 168, 175, 189] else [0, 11, 13, 16, 23, 46, 49, 51, 57]
def am_lb_2_1 (n : Nat) : List Nat := bif Nat.blt n 174 then bif Nat.blt n 172 then am_lb_2_1_0 n else am_lb_2_1_1 n else bif Nat.blt n 176 then am_lb_2_1_2 n else bif Nat.blt n 178 then am_lb_2_1_3 n else am_lb_2_1_4 n
def am_lb_2_2_0 (n : Nat) : List Nat := bif Nat.blt n 181 then [0, 7, 15, 22, 29, 41, 54, 59, 65, 72, 80, 105, 132] else [0, 6]
def am_lb_2_2_1 (n : Nat) : List Nat := bif Nat.blt n 183 then [0, 7, 10, 19, 23, 24, 27, 41, 49, 53, 57, 60, 68, 69, 72, 75, 85, 90, 92, 98] else [0, 12, 16, 17]
def am_lb_2_2_2 (n : Nat) : List Nat := bif Nat.blt n 185 then am_l184_0 ++ (am_l184_1) else [0, 6, 15, 22, 29, 36, 43, 51, 54, 57, 58, 64, 67, 71, 73, 76, 85]
def am_lb_2_2_3 (n : Nat) : List Nat := bif Nat.blt n 187 then [0, 5, 6, 9, 10, 13, 16, 17, 20, 27, 28, 31, 34, 36, 37, 44] else [0, 5, 9, 10]
def am_lb_2_2_4 (n : Nat) : List Nat := bif Nat.blt n 189 then [0, 10, 31] else [0, 7, 13, 16, 20]
def am_lb_2_2 (n : Nat) : List Nat := bif Nat.blt n 184 then bif Nat.blt n 182 then am_lb_2_2_0 n else am_lb_2_2_1 n else bif Nat.blt n 186 then am_lb_2_2_2 n else bif Nat.blt n 188 then am_lb_2_2_3 n else am_lb_2_2_4 n
def am_lb_2_3_0 (n : Nat) : List Nat := bif Nat.blt n 191 then am_l190_0 ++ (am_l190_1) else [0, 12, 17, 21, 26, 27, 34, 37, 50, 62, 68]
def am_lb_2_3_1 (n : Nat) : List Nat := bif Nat.blt n 193 then [0, 9, 13, 14] else [0]
def am_lb_2_3_2 (n : Nat) : List Nat := bif Nat.blt n 195 then [0] else [0, 2, 10, 23, 37, 58, 67, 81, 84, 93, 101, 108, 114, 120, 135, 139, 146, 156, 159, 168, 181, 187]
def am_lb_2_3_3 (n : Nat) : List Nat := bif Nat.blt n 197 then [0, 2, 7, 15, 18, 40, 46, 48, 56, 58, 63, 71, 91, 94, 95, 101, 107, 114, 118, 120, 125, 133, 153, 156, 157, 163, 169] else [0, 14, 23, 34, 53, 59, 63, 65, 71]
def am_lb_2_3_4 (n : Nat) : List Nat := bif Nat.blt n 199 then [0, 9, 24, 33, 36, 43, 52, 55] else [0, 6, 10, 11]
def am_lb_2_3 (n : Nat) : List Nat := bif Nat.blt n 194 then bif Nat.blt n 192 then am_lb_2_3_0 n else am_lb_2_3_1 n else bif Nat.blt n 196 then am_lb_2_3_2 n else bif Nat.blt n 198 then am_lb_2_3_3 n else am_lb_2_3_4 n
def am_lb_2_4_0 (n : Nat) : List Nat := bif Nat.blt n 201 then [0, 14, 23, 34, 53, 59, 63, 65, 71] else [0, 7, 13, 22, 44, 57, 58, 64]
def am_lb_2_4_1 (n : Nat) : List Nat := bif Nat.blt n 203 then [0, 10, 18, 29, 32, 47, 50, 62, 65, 69, 75, 78, 85] else [0, 5, 13, 16, 18, 21, 34, 41, 43, 46, 51, 55, 59, 60, 63, 76, 80, 81, 84, 92, 100, 103, 110, 124, 145, 150, 158]
def am_lb_2_4_2 (n : Nat) : List Nat := bif Nat.blt n 205 then [0, 5] else [0, 10]
def am_lb_2_4_3 (n : Nat) : List Nat := bif Nat.blt n 207 then [0, 6] else am_l207_0 ++ (am_l207_1)
def am_lb_2_4_4 (n : Nat) : List Nat := bif Nat.blt n 209 then [0, 5, 12, 21, 24, 31, 35, 36, 39, 50, 56, 62, 66, 67, 70, 81, 84, 90, 101, 104, 108, 109, 112, 118, 127, 131, 135, 136, 139, 151, 160, 163, 165, 171, 180] else [0, 2, 8, 11, 17, 21, 23, 29]
def am_lb_2_4 (n : Nat) : List Nat := bif Nat.blt n 204 then bif Nat.blt n 202 then am_lb_2_4_0 n else am_lb_2_4_1 n else bif Nat.blt n 206 then am_lb_2_4_2 n else bif Nat.blt n 208 then am_lb_2_4_3 n else am_lb_2_4_4 n
def am_lb_2_5_0 (n : Nat) : List Nat := bif Nat.blt n 211 then [0, 2, 12, 21, 24, 45, 70] else [0, 2, 10, 23, 28, 49, 52, 58, 75, 83, 86, 94, 102, 104, 110, 119, 122, 147, 151, 157, 163]
def am_lb_2_5_1 (n : Nat) : List Nat := bif Nat.blt n 213 then [0, 2, 19, 38, 41, 56] else [0, 5, 14, 17, 21, 24, 27, 31, 40, 50, 53, 55, 73, 87]
def am_lb_2_5_2 (n : Nat) : List Nat := bif Nat.blt n 215 then [0, 5, 9, 10] else [0, 10, 13, 17, 25, 29, 30, 40, 42, 63, 68, 73, 86, 92, 105, 111, 117, 123, 129, 132, 144, 161]
def am_lb_2_5_3 (n : Nat) : List Nat := bif Nat.blt n 217 then [0, 5, 10, 14, 15] else [0, 12, 18, 31, 33, 40, 53, 70, 85, 100, 115, 130, 140, 145, 158, 160, 166, 179, 196, 211]
def am_lb_2_5_4 (n : Nat) : List Nat := bif Nat.blt n 219 then [0, 1, 176, 178, 180, 182, 184, 186, 188] else [0, 5, 11, 30, 42]
def am_lb_2_5 (n : Nat) : List Nat := bif Nat.blt n 214 then bif Nat.blt n 212 then am_lb_2_5_0 n else am_lb_2_5_1 n else bif Nat.blt n 216 then am_lb_2_5_2 n else bif Nat.blt n 218 then am_lb_2_5_3 n else am_lb_2_5_4 n
def am_lb_2_6_0 (n : Nat) : List Nat := bif Nat.blt n 221 then am_l220_0 ++ (am_l220_1) else [0, 6, 9, 13, 14, 24, 34, 38, 39, 42, 49, 51, 62, 70, 80, 83, 98, 106, 120, 126]
def am_lb_2_6_1 (n : Nat) : List Nat := bif Nat.blt n 223 then [0, 9] else [0, 6, 17, 26, 37, 42, 54, 73, 84, 93, 99, 105, 108, 132, 138, 141, 150, 156]
def am_lb_2_6_2 (n : Nat) : List Nat := bif Nat.blt n 225 then [0, 5, 14, 25, 30, 34, 39, 49, 76, 79, 81, 87] else [0]
def am_lb_2_6_3 (n : Nat) : List Nat := bif Nat.blt n 227 then [0, 6, 9, 14, 17, 21, 22, 32, 43, 52, 56, 57, 60, 67, 69, 75, 80, 89, 100, 108, 111, 117, 129, 131] else [0, 9]
def am_lb_2_6_4 (n : Nat) : List Nat := bif Nat.blt n 229 then [0, 9, 12, 16, 25, 29, 30, 40, 42, 67] else [0, 6, 9, 13, 14, 24, 35, 39, 40, 43, 50, 55, 58, 60, 69, 73, 76, 80, 105, 119]
def am_lb_2_6 (n : Nat) : List Nat := bif Nat.blt n 224 then bif Nat.blt n 222 then am_lb_2_6_0 n else am_lb_2_6_1 n else bif Nat.blt n 226 then am_lb_2_6_2 n else bif Nat.blt n 228 then am_lb_2_6_3 n else am_lb_2_6_4 n
def am_lb_2_7_0 (n : Nat) : List Nat := bif Nat.blt n 231 then [0, 7, 15, 25, 28, 51, 63, 67, 69, 72, 83, 109, 115] else [0, 6, 15, 28, 41, 47, 64, 68, 74]
def am_lb_2_7_1 (n : Nat) : List Nat := bif Nat.blt n 233 then [0, 15, 24, 49, 65, 87, 110, 132, 154, 163, 186, 192] else [0, 2, 10, 23, 29, 33, 39, 48, 60, 72, 74, 82, 88, 96, 101, 107, 113, 119, 125, 131, 134, 143, 152, 172, 175, 182, 202, 206, 210, 213, 222, 242, 245, 251, 271]
def am_lb_2_7_2 (n : Nat) : List Nat := bif Nat.blt n 235 then [0, 4, 9, 18, 27, 38, 41, 66, 77, 83, 96, 107, 109, 129] else [0, 2, 7, 22, 37, 41, 42, 43, 55, 68, 76, 82, 86, 87, 88, 94]
def am_lb_2_7_3 (n : Nat) : List Nat := bif Nat.blt n 237 then [0, 5, 11, 20, 27, 28, 36] else [0, 5, 11, 20, 27, 28, 36]
def am_lb_2_7_4 (n : Nat) : List Nat := bif Nat.blt n 239 then [0, 7, 11, 15, 20, 30, 41, 42, 49, 59, 69, 81, 87] else [0, 9, 12, 20, 23, 31, 34, 38, 47, 51, 52, 62, 64, 89]
def am_lb_2_7 (n : Nat) : List Nat := bif Nat.blt n 234 then bif Nat.blt n 232 then am_lb_2_7_0 n else am_lb_2_7_1 n else bif Nat.blt n 236 then am_lb_2_7_2 n else bif Nat.blt n 238 then am_lb_2_7_3 n else am_lb_2_7_4 n
def am_lb_2 (n : Nat) : List Nat := bif Nat.blt n 200 then bif Nat.blt n 180 then bif Nat.blt n 170 then am_lb_2_0 n else am_lb_2_1 n else bif Nat.blt n 190 then am_lb_2_2 n else am_lb_2_3 n else bif Nat.blt n 220 then bif Nat.blt n 210 then am_lb_2_4 n else am_lb_2_5 n else bif Nat.blt n 230 then am_lb_2_6 n else am_lb_2_7 n
def am_lb_3_0_0 (n : Nat) : List Nat := bif Nat.blt n 241 then [0, 6, 9, 13, 14, 24, 35, 39, 49, 56, 60, 61, 64, 71, 73, 82, 90, 100, 122, 133, 139, 145, 164, 171, 176] else [0, 25, 46, 54, 80, 102]
def am_lb_3_0_1 (n : Nat) : List Nat := bif Nat.blt n 243 then [0, 2, 10, 20, 30, 32, 38] else [0, 6, 15, 26, 37, 48, 51, 57, 74, 78, 84, 90, 99, 106]
def am_lb_3_0_2 (n : Nat) : List Nat := bif Nat.blt n 245 then [0, 6, 9, 13, 14, 24, 35, 39, 40, 43, 50, 51, 53, 61, 71, 78, 84] else [0, 6, 9, 13, 14, 24, 34, 43, 47, 48, 51, 58, 60, 66]
def am_lb_3_0_3 (n : Nat) : List Nat := bif Nat.blt n 247 then [0, 10, 21, 25, 36, 40, 41, 51, 53, 64, 75, 98] else [0, 4, 14, 24, 44, 60, 63, 65, 71]
def am_lb_3_0_4 (n : Nat) : List Nat := bif Nat.blt n 249 then [0, 2, 10, 23, 25, 33, 48, 67, 68, 74] else [0, 4, 9, 17, 25, 27, 51, 56, 58, 86, 110, 135]
def am_lb_3_0 (n : Nat) : List Nat := bif Nat.blt n 244 then bif Nat.blt n 242 then am_lb_3_0_0 n else am_lb_3_0_1 n else bif Nat.blt n 246 then am_lb_3_0_2 n else bif Nat.blt n 248 then am_lb_3_0_3 n else am_lb_3_0_4 n
def am_lb_3_1_0 (n : Nat) : List Nat := bif Nat.blt n 251 then [0, 6, 15, 32, 41, 44, 47, 52, 69, 72, 78, 86, 89, 93, 99] else [0, 15, 25, 29, 33, 43, 58, 62, 63, 70, 81, 92, 102, 119, 123, 124]
def am_lb_3_1_1 (n : Nat) : List Nat := bif Nat.blt n 253 then [0, 22, 31, 47, 51, 52, 53, 59, 65, 69, 70, 71, 95, 104, 121, 125, 129, 136, 140, 141] else [0, 6, 9, 14, 17, 21, 29, 32, 41, 44, 48, 49, 59, 69, 73, 84, 88, 89, 92, 99, 101, 123, 147]
def am_lb_3_1_2 (n : Nat) : List Nat := bif Nat.blt n 255 then [0, 9] else [0, 8, 11, 18, 21, 25, 35, 39, 40, 50, 52, 77, 102]
def am_lb_3_1_3 (n : Nat) : List Nat := bif Nat.blt n 257 then [0, 6, 9, 14, 17, 21, 29, 32, 36, 37, 47, 49, 56, 67, 70, 75, 80, 88, 91, 95, 100, 110, 114, 115, 125, 127, 132, 140] else [0, 9]
def am_lb_3_1_4 (n : Nat) : List Nat := bif Nat.blt n 259 then [0, 11] else [0, 6, 12, 16, 22]
def am_lb_3_1 (n : Nat) : List Nat := bif Nat.blt n 254 then bif Nat.blt n 252 then am_lb_3_1_0 n else am_lb_3_1_1 n else bif Nat.blt n 256 then am_lb_3_1_2 n else bif Nat.blt n 258 then am_lb_3_1_3 n else am_lb_3_1_4 n
def am_lb_3_2_0 (n : Nat) : List Nat := bif Nat.blt n 261 then [0, 5, 14, 30, 46, 62, 72, 78] else [0, 14, 34, 37, 43, 63, 66, 70, 71]
def am_lb_3_2_1 (n : Nat) : List Nat := bif Nat.blt n 263 then [0, 5, 14, 25, 35, 38, 57, 72, 85, 95, 100, 110, 111, 115, 121] else [0, 6, 9, 14, 17, 22, 25, 29, 35, 40, 44, 56, 60, 61, 71, 73, 81, 87, 91, 93, 98, 102, 110, 117, 120, 129, 137, 142, 162, 168, 173]
def am_lb_3_2_2 (n : Nat) : List Nat := bif Nat.blt n 265 then [0, 23, 27, 29, 41, 44, 46, 52, 72, 75, 77, 83, 103, 106, 110, 111] else [0, 6, 10, 17, 28, 43, 45, 51]
def am_lb_3_2_3 (n : Nat) : List Nat := bif Nat.blt n 267 then [0, 6, 9, 13, 14, 24, 35, 39, 40, 43, 50, 57] else [0, 6, 9, 13, 20, 23, 31, 34, 43, 46, 50, 60, 70, 74, 75, 85, 87, 96]
def am_lb_3_2_4 (n : Nat) : List Nat := bif Nat.blt n 269 then [0, 25, 50, 61] else [0, 12, 15, 19, 20, 30, 32, 36, 42, 48, 57, 75, 85, 86, 95, 108, 114, 119, 133, 138, 144, 150]
def am_lb_3_2 (n : Nat) : List Nat := bif Nat.blt n 264 then bif Nat.blt n 262 then am_lb_3_2_0 n else am_lb_3_2_1 n else bif Nat.blt n 266 then am_lb_3_2_2 n else bif Nat.blt n 268 then am_lb_3_2_3 n else am_lb_3_2_4 n
def am_lb_3_3_0 (n : Nat) : List Nat := bif Nat.blt n 271 then [0, 6, 9, 13, 21, 24, 32, 35, 44, 47, 51, 52, 62, 69, 75, 81, 87, 93, 104, 108, 109, 112, 119, 120, 142] else [0, 11]
def am_lb_3_3_1 (n : Nat) : List Nat := bif Nat.blt n 273 then [0, 8, 12, 13, 23, 25, 29, 32, 44, 51, 57, 61, 62, 72, 74, 89, 103, 116, 124, 126, 139, 150, 155, 161] else [0, 4, 7, 9, 11, 24, 47, 61, 63, 76, 87, 91, 92, 95, 100, 104, 110, 113, 117, 118, 125, 129, 150, 153, 154, 160, 166, 169, 175, 178, 186, 189, 190]
def am_lb_3_3_2 (n : Nat) : List Nat := bif Nat.blt n 275 then [0, 14, 22, 27, 37, 42, 43, 49, 53, 60, 68, 73, 74, 94, 102, 107, 111, 114, 118, 121, 126, 127, 130, 136, 140, 147, 155, 158, 159] else [0, 8, 21, 22]
def am_lb_3_3_3 (n : Nat) : List Nat := bif Nat.blt n 277 then [0] else [0, 6, 12, 18, 24, 30, 36, 42, 48, 54, 58, 59]
def am_lb_3_3_4 (n : Nat) : List Nat := bif Nat.blt n 279 then [0, 6, 12, 17, 20, 24, 25] else [0, 19, 24, 33, 34, 35, 40, 50, 56, 57, 58, 63, 74, 83, 84, 85, 89, 95, 96]
def am_lb_3_3 (n : Nat) : List Nat := bif Nat.blt n 274 then bif Nat.blt n 272 then am_lb_3_3_0 n else am_lb_3_3_1 n else bif Nat.blt n 276 then am_lb_3_3_2 n else bif Nat.blt n 278 then am_lb_3_3_3 n else am_lb_3_3_4 n
def am_lb_3_4_0 (n : Nat) : List Nat := bif Nat.blt n 281 then [0, 11, 22, 26, 27] else [0, 4, 17, 28, 32, 33, 41]
def am_lb_3_4_1 (n : Nat) : List Nat := bif Nat.blt n 283 then [0, 2, 15, 25, 29, 30, 37, 48, 53, 56, 62, 74, 82, 93, 96, 120, 127, 133, 139] else [0, 13, 17, 23, 28, 34, 39, 45, 50, 52, 58, 61, 67, 70, 71]
def am_lb_3_4_2 (n : Nat) : List Nat := bif Nat.blt n 285 then [0, 22, 27, 33, 36, 46, 50, 51, 57, 70, 83, 93, 99, 128, 155] else [0, 9, 12, 24, 35, 39, 40, 50, 52, 67, 73, 94]
def am_lb_3_4_3 (n : Nat) : List Nat := bif Nat.blt n 287 then [0, 15, 21, 34, 45, 53, 58, 62, 65, 67, 75, 78, 81, 89, 90, 94, 97, 99] else [0, 6, 9, 15, 18, 25, 28, 30, 41, 44, 46, 58, 61, 63, 73, 78, 79, 100, 109]
def am_lb_3_4_4 (n : Nat) : List Nat := bif Nat.blt n 289 then [0, 8, 12, 20, 21] else [0, 13, 16, 24, 25, 28, 36, 39, 45, 50, 63, 67, 82, 95, 98, 108, 113, 118, 123, 126, 127]
def am_lb_3_4 (n : Nat) : List Nat := bif Nat.blt n 284 then bif Nat.blt n 282 then am_lb_3_4_0 n else am_lb_3_4_1 n else bif Nat.blt n 286 then am_lb_3_4_2 n else bif Nat.blt n 288 then am_lb_3_4_3 n else am_lb_3_4_4 n
def am_lb_3_5_0 (n : Nat) : List Nat := bif Nat.blt n 291 then [0, 5, 10, 15, 20, 24, 25] else [0, 6, 12, 16, 17]
def am_lb_3_5_1 (n : Nat) : List Nat := bif Nat.blt n 293 then [0, 5, 13, 16, 19, 30, 38, 39, 52, 65, 70, 76, 79, 84, 85, 91, 94, 96, 119, 123, 130, 149, 161, 162, 169, 177, 180, 182, 198, 201, 209, 212, 214, 230, 233, 240, 243, 245, 261] else [0, 2, 10, 22, 26, 27, 32, 40, 45, 65, 68, 72, 73, 81, 86, 88, 94]
def am_lb_3_5_2 (n : Nat) : List Nat := bif Nat.blt n 295 then [0, 10, 13, 17, 18, 28, 30] else [0, 14, 18, 19, 29, 30, 35, 40, 45, 51, 57]
def am_lb_3_5_3 (n : Nat) : List Nat := bif Nat.blt n 297 then [0, 3, 7, 30, 36] else am_l297_0 ++ (am_l297_1)
def am_lb_3_5_4 (n : Nat) : List Nat := bif Nat.blt n 299 then [0, 6, 9, 13, 14, 24, 34, 38, 39, 42, 49, 51, 65, 80, 100, 112, 118, 124, 126, 134] else [0, 9]
def am_lb_3_5 (n : Nat) : List Nat := bif Nat.blt n 294 then bif Nat.blt n 292 then am_lb_3_5_0 n else am_lb_3_5_1 n else bif Nat.blt n 296 then am_lb_3_5_2 n else bif Nat.blt n 298 then am_lb_3_5_3 n else am_lb_3_5_4 n
def am_lb_3_6_0 (n : Nat) : List Nat := bif Nat.blt n 301 then [0, 6, 9, 13, 26, 29, 33, 41, 44, 48, 49, 59, 61, 79, 83, 93, 103, 113, 117, 118, 128, 130, 140, 166, 171, 188, 201] else [0, 9, 12, 24, 35, 39, 40, 50, 52, 79, 96, 121, 124, 134, 156, 179, 200]
def am_lb_3_6_1 (n : Nat) : List Nat := bif Nat.blt n 303 then [0, 12, 15, 17, 33, 36, 44, 47, 49, 65, 68, 70, 74, 78, 86, 91, 97, 105, 108, 111, 119, 120, 125, 128, 130, 145, 168, 175, 178, 180, 188, 193, 194, 200, 203, 205, 216, 224, 227, 228] else [0, 5, 13, 16, 19, 30, 38, 39, 52, 66, 75, 80, 89, 94, 95, 101, 104, 112, 115, 117, 133, 136, 144, 147, 149, 165]
def am_lb_3_6_2 (n : Nat) : List Nat := bif Nat.blt n 305 then [0, 5, 14, 27, 31, 32, 37, 45, 50, 71, 74, 78, 79, 87, 92, 97, 98, 105] else [0, 6, 9, 13, 14, 24, 34, 38, 39, 42, 49, 51, 71, 75, 85]
def am_lb_3_6_3 (n : Nat) : List Nat := bif Nat.blt n 307 then [0, 9] else [0, 5, 12, 33]
def am_lb_3_6_4 (n : Nat) : List Nat := bif Nat.blt n 309 then [0, 5, 12, 33] else [0, 8, 11, 17, 20, 31, 34, 43, 46, 50, 51, 61, 63, 66, 75, 86, 97, 108, 114, 123, 127, 128, 138, 140, 149, 159, 183]
def am_lb_3_6 (n : Nat) : List Nat := bif Nat.blt n 304 then bif Nat.blt n 302 then am_lb_3_6_0 n else am_lb_3_6_1 n else bif Nat.blt n 306 then am_lb_3_6_2 n else bif Nat.blt n 308 then am_lb_3_6_3 n else am_lb_3_6_4 n
def am_lb_3_7_0 (n : Nat) : List Nat := bif Nat.blt n 311 then [0, 9, 12, 24, 34, 43, 47, 48, 58, 60, 83, 91, 111, 113, 121, 144, 167, 175] else [0, 15, 26, 34, 37, 40, 44, 47, 49, 57, 60, 68, 69, 73, 76, 78]
def am_lb_3_7_1 (n : Nat) : List Nat := bif Nat.blt n 313 then [0, 6, 12, 16, 17] else [0, 5, 13, 16, 19, 30, 38, 39, 52, 60, 65, 74, 77, 82, 83, 94, 97, 105, 108, 110, 133, 134, 139, 161, 167, 182, 188, 201, 207]
def am_lb_3_7_2 (n : Nat) : List Nat := bif Nat.blt n 315 then [0, 2, 10, 22, 26, 27, 32, 40, 45, 65, 68, 72, 73, 81, 86, 88, 94] else [0, 7, 15, 16, 23, 26, 28, 39, 42, 44, 57, 60, 62, 77, 82, 83, 96, 99, 107, 110, 112, 137, 162, 176]
def am_lb_3_7_3 (n : Nat) : List Nat := bif Nat.blt n 317 then [0, 6, 9, 13, 14, 24, 34, 43, 47, 48, 51, 58, 62, 68] else am_l317_0 ++ (am_l317_1)
def am_lb_3_7_4 (n : Nat) : List Nat := bif Nat.blt n 319 then [0, 6, 15, 28, 44, 60, 70, 71, 80] else [0, 13, 33, 37, 56, 61, 63, 73, 79, 80]
def am_lb_3_7 (n : Nat) : List Nat := bif Nat.blt n 314 then bif Nat.blt n 312 then am_lb_3_7_0 n else am_lb_3_7_1 n else bif Nat.blt n 316 then am_lb_3_7_2 n else bif Nat.blt n 318 then am_lb_3_7_3 n else am_lb_3_7_4 n
def am_lb_3 (n : Nat) : List Nat := bif Nat.blt n 280 then bif Nat.blt n 260 then bif Nat.blt n 250 then am_lb_3_0 n else am_lb_3_1 n else bif Nat.blt n 270 then am_lb_3_2 n else am_lb_3_3 n else bif Nat.blt n 300 then bif Nat.blt n 290 then am_lb_3_4 n else am_lb_3_5 n else bif Nat.blt n 310 then am_lb_3_6 n else am_lb_3_7 n
def am_lb_4_0_0 (n : Nat) : List Nat := bif Nat.blt n 321 then [0, 6, 9, 13, 18, 21, 25, 29, 38, 41, 48, 51, 55, 56, 66, 67, 83, 87, 88, 98, 102, 104] else [0, 8, 11, 15, 16, 26, 28, 33, 37, 53, 57, 58, 68, 70, 80, 88, 111, 129, 133, 139, 150, 153, 171, 193, 213, 218, 224]
def am_lb_4_0_1 (n : Nat) : List Nat := bif Nat.blt n 323 then [0, 4, 8, 15, 23, 33, 48, 63, 66, 75, 82, 83, 93, 108, 111, 115, 132, 155, 166, 189, 207, 216, 218, 221, 227, 229, 237, 246, 254, 260, 263, 269, 275, 281] else [0, 2, 10, 31, 37, 39, 47, 59, 68, 71, 94, 113, 130, 147, 148, 154]
def am_lb_4_0_2 (n : Nat) : List Nat := bif Nat.blt n 325 then [0, 22, 41, 45, 46, 51, 58, 63, 77, 97, 101, 102, 110, 115, 136, 148, 169, 181, 185, 186] else [0, 7, 11, 33, 38, 44, 55, 64, 65, 67, 73, 96, 105, 111, 123, 139, 150, 152]
def am_lb_4_0_3 (n : Nat) : List Nat := bif Nat.blt n 327 then [0, 7, 16, 30, 33, 38, 47, 56, 62, 68, 71, 94, 100, 106, 110, 113, 119, 125, 132, 139, 143, 146, 155, 164, 176, 183, 186, 195, 212, 226, 235, 239, 240, 247, 258, 261] else [0, 15, 21, 37]
def am_lb_4_0_4 (n : Nat) : List Nat := bif Nat.blt n 329 then [0, 4, 12, 14, 19, 23, 28, 34, 39, 44, 47, 51, 52, 59, 65] else [0, 2, 10, 15, 24, 29, 38, 42, 43, 44, 50]
def am_lb_4_0 (n : Nat) : List Nat := bif Nat.blt n 324 then bif Nat.blt n 322 then am_lb_4_0_0 n else am_lb_4_0_1 n else bif Nat.blt n 326 then am_lb_4_0_2 n else bif Nat.blt n 328 then am_lb_4_0_3 n else am_lb_4_0_4 n
def am_lb_4_1_0 (n : Nat) : List Nat := bif Nat.blt n 331 then [0, 6, 9, 13, 20, 23, 27, 28, 38, 40, 61, 67, 70, 74, 87, 102, 106, 107, 117, 119, 127, 138, 145, 167, 185, 192] else [0, 6, 12]
def am_lb_4_1_1 (n : Nat) : List Nat := bif Nat.blt n 333 then am_l332_0 ++ (am_l332_1) else [0, 6, 9, 14, 17, 21, 28, 31, 36, 40, 41, 51, 53, 59, 66, 72, 76, 80, 86, 90, 96, 99, 103, 113, 117, 118, 128, 130, 134, 144, 155, 176, 196, 209, 216, 222, 240, 261]
def am_lb_4_1_2 (n : Nat) : List Nat := bif Nat.blt n 335 then [0, 5, 16, 31, 36, 37, 44] else [0, 2, 10, 20, 24, 25, 32, 34, 38, 43, 52, 55, 67, 77, 81, 101, 105, 106, 131, 137, 140]
def am_lb_4_1_3 (n : Nat) : List Nat := bif Nat.blt n 337 then [0, 8, 11, 15, 16, 26, 28, 33, 40, 47, 52, 69, 73, 74, 82, 87, 97, 122, 143, 150, 175, 183, 186, 193, 212] else [0, 7, 10, 18, 21, 25, 26, 36, 43]
def am_lb_4_1_4 (n : Nat) : List Nat := bif Nat.blt n 339 then [0, 5, 17, 21, 22, 32, 34] else [0, 6, 9, 13, 18, 21, 25, 38, 42, 43, 53, 55, 61, 67, 69, 76, 96, 102, 121, 123, 129, 149, 168, 173, 198, 206, 214, 222, 243]
def am_lb_4_1 (n : Nat) : List Nat := bif Nat.blt n 334 then bif Nat.blt n 332 then am_lb_4_1_0 n else am_lb_4_1_1 n else bif Nat.blt n 336 then am_lb_4_1_2 n else bif Nat.blt n 338 then am_lb_4_1_3 n else am_lb_4_1_4 n
def am_lb_4_2_0 (n : Nat) : List Nat := bif Nat.blt n 341 then [0, 11] else [0, 13, 19, 45, 49, 50, 58, 61, 68, 85, 98, 101, 104, 111, 114, 117, 123, 146, 149, 155, 158, 164, 182, 198, 206, 223, 229, 235, 241]
def am_lb_4_2_1 (n : Nat) : List Nat := bif Nat.blt n 343 then [0, 3, 11, 19, 22, 24, 30] else [0, 3, 12, 18, 35, 37, 43]
def am_lb_4_2_2 (n : Nat) : List Nat := bif Nat.blt n 345 then [0, 4, 8, 16, 24, 35, 38, 40, 43, 52, 58, 77, 97, 99, 105] else [0, 18, 23, 26, 40, 46, 52, 70, 75, 91, 99, 119, 123, 124, 132, 137, 152, 158, 164]
def am_lb_4_2_3 (n : Nat) : List Nat := bif Nat.blt n 347 then [0, 16, 19, 24, 27, 31, 32] else [0, 8, 12, 17, 20, 24, 34, 37, 41, 50, 54, 55, 65, 67, 69, 76, 98, 102, 103, 111, 138]
def am_lb_4_2_4 (n : Nat) : List Nat := bif Nat.blt n 349 then [0, 6, 9, 13, 14, 24, 30, 33, 34, 43, 50, 54, 59, 63, 64, 67, 74, 85, 104, 108, 118, 122, 123, 126, 133, 135, 158, 164] else [0, 5, 14, 18, 29, 32, 36, 39, 42, 48]
def am_lb_4_2 (n : Nat) : List Nat := bif Nat.blt n 344 then bif Nat.blt n 342 then am_lb_4_2_0 n else am_lb_4_2_1 n else bif Nat.blt n 346 then am_lb_4_2_2 n else bif Nat.blt n 348 then am_lb_4_2_3 n else am_lb_4_2_4 n
def am_lb_4_3_0 (n : Nat) : List Nat := bif Nat.blt n 351 then [0, 6, 9, 13, 21, 24, 28, 29, 39, 50, 54, 55, 58, 65, 67, 73, 79, 85, 88, 101, 108, 110, 113, 115, 136, 148] else [0]
def am_lb_4_3_1 (n : Nat) : List Nat := bif Nat.blt n 353 then [0, 9, 14, 17, 33, 34] else [0, 16, 19, 32, 33]
def am_lb_4_3_2 (n : Nat) : List Nat := bif Nat.blt n 355 then [0, 5, 8] else [0, 8, 16, 24, 34, 36, 56, 59, 70, 75, 79, 81]
def am_lb_4_3_3 (n : Nat) : List Nat := bif Nat.blt n 357 then [0, 7, 13, 21, 25, 26, 47] else [0, 4, 17, 42]
def am_lb_4_3_4 (n : Nat) : List Nat := bif Nat.blt n 359 then [0, 13, 21, 25, 31, 33, 52, 73, 76, 87, 98, 102, 104] else [0, 7, 14, 28, 32, 33, 48]
def am_lb_4_3 (n : Nat) : List Nat := bif Nat.blt n 354 then bif Nat.blt n 352 then am_lb_4_3_0 n else am_lb_4_3_1 n else bif Nat.blt n 356 then am_lb_4_3_2 n else bif Nat.blt n 358 then am_lb_4_3_3 n else am_lb_4_3_4 n
def am_lb_4_4_0 (n : Nat) : List Nat := bif Nat.blt n 361 then [0, 7, 11, 14] else [0, 5, 8]
def am_lb_4_4_1 (n : Nat) : List Nat := bif Nat.blt n 363 then [0, 5, 8] else [0, 6, 9, 13, 14, 24, 26, 49, 69, 72]
def am_lb_4_4_2 (n : Nat) : List Nat := bif Nat.blt n 365 then [0, 10, 15, 19, 23] else [0, 7, 10]
def am_lb_4_4_3 (n : Nat) : List Nat := bif Nat.blt n 367 then [0, 5, 11, 19, 22, 29, 33, 34, 37, 40, 45, 49, 57, 62, 70, 75, 83, 91, 95, 96, 97, 98, 128, 135, 139, 147, 155, 163, 170, 173, 177, 184, 187] else [0, 6, 9, 13, 26, 29, 33, 39, 43, 44, 47, 50, 54, 55, 65, 67, 71, 75, 84, 89, 98, 103, 112, 121, 125, 126, 127, 139, 147, 152, 160, 165, 175, 180, 190, 197]
def am_lb_4_4_4 (n : Nat) : List Nat := bif Nat.blt n 369 then [0, 7, 12, 15, 18] else [0, 11, 14, 17]
def am_lb_4_4 (n : Nat) : List Nat := bif Nat.blt n 364 then bif Nat.blt n 362 then am_lb_4_4_0 n else am_lb_4_4_1 n else bif Nat.blt n 366 then am_lb_4_4_2 n else bif Nat.blt n 368 then am_lb_4_4_3 n else am_lb_4_4_4 n
def am_lb_4_5_0 (n : Nat) : List Nat := bif Nat.blt n 371 then [0, 14] else [0, 10, 11, 15, 38, 45, 50, 54, 60, 64, 70, 75, 81, 86, 88, 93, 99, 123, 134, 140, 158, 165, 187, 212]
def am_lb_4_5_1 (n : Nat) : List Nat := bif Nat.blt n 373 then [0, 5, 17] else [0, 7, 14, 24, 25, 35, 60, 63, 68, 74, 79, 85, 91, 97, 103, 109, 115, 122, 131, 149, 173]
def am_lb_4_5_2 (n : Nat) : List Nat := bif Nat.blt n 375 then [0, 3, 7, 30, 36] else [0, 10, 15, 19, 23, 27, 31]
def am_lb_4_5_3 (n : Nat) : List Nat := bif Nat.blt n 377 then [0, 13, 16, 19] else [0, 7, 20]
def am_lb_4_5_4 (n : Nat) : List Nat := bif Nat.blt n 379 then [0, 6, 11, 14] else [0, 10, 13, 16]
def am_lb_4_5 (n : Nat) : List Nat := bif Nat.blt n 374 then bif Nat.blt n 372 then am_lb_4_5_0 n else am_lb_4_5_1 n else bif Nat.blt n 376 then am_lb_4_5_2 n else bif Nat.blt n 378 then am_lb_4_5_3 n else am_lb_4_5_4 n
def am_lb_4_6_0 (n : Nat) : List Nat := bif Nat.blt n 381 then [0, 4, 16] else [0, 7, 11, 14, 17]
def am_lb_4_6_1 (n : Nat) : List Nat := bif Nat.blt n 383 then [0, 5, 8, 23] else [0, 5, 17]
def am_lb_4_6_2 (n : Nat) : List Nat := bif Nat.blt n 385 then [0, 8, 12, 16, 20] else [0, 6, 9]
def am_lb_4_6_3 (n : Nat) : List Nat := bif Nat.blt n 387 then [0, 12, 15, 22, 25, 30, 84, 95, 106, 114, 115, 127, 131, 132, 133] else [0, 6, 9, 13, 20, 23, 27, 28, 38, 40, 44, 52, 57, 65, 70, 75, 76, 82, 91, 95, 99, 112]
def am_lb_4_6_4 (n : Nat) : List Nat := bif Nat.blt n 389 then [0, 10, 15, 19] else [0, 7, 10]
def am_lb_4_6 (n : Nat) : List Nat := bif Nat.blt n 384 then bif Nat.blt n 382 then am_lb_4_6_0 n else am_lb_4_6_1 n else bif Nat.blt n 386 then am_lb_4_6_2 n else bif Nat.blt n 388 then am_lb_4_6_3 n else am_lb_4_6_4 n
def am_lb_4_7_0 (n : Nat) : List Nat := bif Nat.blt n 391 then [0, 7, 10, 16, 19, 27, 30, 34, 35, 38, 45] else [0, 8, 11, 17, 20, 28, 31, 35, 36, 46, 50, 57]
def am_lb_4_7_1 (n : Nat) : List Nat := bif Nat.blt n 393 then [0, 12, 17, 21, 25] else [0, 9, 12, 29]
def am_lb_4_7_2 (n : Nat) : List Nat := bif Nat.blt n 395 then [0, 9, 23] else [0, 8, 11, 15, 16, 20, 24, 28, 32]
def am_lb_4_7_3 (n : Nat) : List Nat := bif Nat.blt n 397 then [0, 6, 9, 24] else [0, 6, 18]
def am_lb_4_7_4 (n : Nat) : List Nat := bif Nat.blt n 399 then [0, 8, 13, 17, 21, 25] else [0, 6, 9]
def am_lb_4_7 (n : Nat) : List Nat := bif Nat.blt n 394 then bif Nat.blt n 392 then am_lb_4_7_0 n else am_lb_4_7_1 n else bif Nat.blt n 396 then am_lb_4_7_2 n else bif Nat.blt n 398 then am_lb_4_7_3 n else am_lb_4_7_4 n
def am_lb_4 (n : Nat) : List Nat := bif Nat.blt n 360 then bif Nat.blt n 340 then bif Nat.blt n 330 then am_lb_4_0 n else am_lb_4_1 n else bif Nat.blt n 350 then am_lb_4_2 n else am_lb_4_3 n else bif Nat.blt n 380 then bif Nat.blt n 370 then am_lb_4_4 n else am_lb_4_5 n else bif Nat.blt n 390 then am_lb_4_6 n else am_lb_4_7 n
def am_lb_5_0_0 (n : Nat) : List Nat := bif Nat.blt n 401 then [0, 5, 12, 15, 16, 22, 26, 27, 30, 39] else [0, 6, 9, 13, 19, 22, 26, 27, 37, 48, 52, 53, 56, 63, 65, 70, 75, 79, 83]
def am_lb_5_0_1 (n : Nat) : List Nat := bif Nat.blt n 403 then [0, 6, 11, 14] else [0, 10, 13, 16]
def am_lb_5_0_2 (n : Nat) : List Nat := bif Nat.blt n 405 then [0, 4, 16] else [0, 7, 12, 15, 18]
def am_lb_5_0_3 (n : Nat) : List Nat := bif Nat.blt n 407 then [0, 5, 8] else [0, 7, 10, 21, 25, 26, 29, 37]
def am_lb_5_0_4 (n : Nat) : List Nat := bif Nat.blt n 409 then [0, 2, 7, 20, 22, 30, 37, 46, 50, 58, 64, 73, 80, 87, 93, 100, 110, 116, 120, 126, 132, 138, 155, 159, 165, 174, 192, 208, 215] else [0, 8, 11, 15, 23, 27, 28, 38, 40, 42, 48, 61, 63, 71, 84, 86, 94, 99, 108, 119, 124, 140, 143, 149, 155, 161, 178, 183, 185, 193, 216, 223, 227, 232, 242, 251, 252, 259]
def am_lb_5_0 (n : Nat) : List Nat := bif Nat.blt n 404 then bif Nat.blt n 402 then am_lb_5_0_0 n else am_lb_5_0_1 n else bif Nat.blt n 406 then am_lb_5_0_2 n else bif Nat.blt n 408 then am_lb_5_0_3 n else am_lb_5_0_4 n
def am_lb_5_1_0 (n : Nat) : List Nat := bif Nat.blt n 411 then [0, 8, 13, 17, 21] else [0, 6, 9]
def am_lb_5_1_1 (n : Nat) : List Nat := bif Nat.blt n 413 then [0, 14, 17, 31, 38, 41, 42, 72, 77, 82, 87, 92] else [0, 12, 15, 19, 32, 35, 39, 40, 50, 52, 56, 63, 68, 75, 80, 87, 92, 101, 114]
def am_lb_5_1_2 (n : Nat) : List Nat := bif Nat.blt n 415 then [0, 7, 12, 15, 18] else [0, 5, 8]
def am_lb_5_1_3 (n : Nat) : List Nat := bif Nat.blt n 417 then [0, 7, 10, 22, 26, 27, 30, 37, 39, 47, 59, 68, 71, 74, 91, 97, 109] else [0]
def am_lb_5_1_4 (n : Nat) : List Nat := bif Nat.blt n 419 then [0, 8, 19, 31, 32, 40, 46, 47, 57, 65, 68] else [0, 12, 14, 17, 21, 26, 27, 30, 35, 38, 41, 47, 52, 61, 71, 77, 82, 95, 98, 104, 111, 133, 151, 157]
def am_lb_5_1 (n : Nat) : List Nat := bif Nat.blt n 414 then bif Nat.blt n 412 then am_lb_5_1_0 n else am_lb_5_1_1 n else bif Nat.blt n 416 then am_lb_5_1_2 n else bif Nat.blt n 418 then am_lb_5_1_3 n else am_lb_5_1_4 n
def am_lb_5_2_0 (n : Nat) : List Nat := bif Nat.blt n 421 then [0, 7, 9, 18, 23, 26, 31, 37, 42] else [0, 5, 9, 14, 24, 27, 33, 39, 42, 45, 49, 56, 59, 61, 66, 72, 84, 93, 98, 107, 109, 115, 129, 135, 141, 157, 163, 171, 176, 184, 187, 189, 197, 204, 206, 214]
def am_lb_5_2_1 (n : Nat) : List Nat := bif Nat.blt n 423 then [0, 4, 7, 12, 19, 24, 27, 30, 38, 45, 50, 53, 58, 64, 72, 78, 81, 84, 94, 101, 107, 126, 131, 133, 134, 140, 146] else [0]
def am_lb_5_2_2 (n : Nat) : List Nat := bif Nat.blt n 425 then [0, 11, 14, 18, 22, 23] else [0, 8, 14]
def am_lb_5_2_3 (n : Nat) : List Nat := bif Nat.blt n 427 then [0, 8] else [0, 5, 8, 11, 28, 50, 55, 57]
def am_lb_5_2_4 (n : Nat) : List Nat := bif Nat.blt n 429 then [0, 6, 15, 18, 24, 38, 41, 51, 62, 66, 67, 70, 73, 79, 82, 88, 108, 134, 146, 155, 170, 184, 187, 193, 203, 227, 233, 240, 243, 252, 270, 280] else [0, 6, 14, 17, 21, 35, 43, 48, 63, 67, 70, 76, 82, 92, 101, 113, 134, 136, 142, 147, 157, 161, 162, 170]
def am_lb_5_2 (n : Nat) : List Nat := bif Nat.blt n 424 then bif Nat.blt n 422 then am_lb_5_2_0 n else am_lb_5_2_1 n else bif Nat.blt n 426 then am_lb_5_2_2 n else bif Nat.blt n 428 then am_lb_5_2_3 n else am_lb_5_2_4 n
def am_lb_5_3_0 (n : Nat) : List Nat := bif Nat.blt n 431 then [0, 5, 8, 14, 19, 28, 36, 40, 44, 45] else [0, 4, 15, 21, 22, 37, 46, 49, 53, 65, 79, 89, 94, 96, 104]
def am_lb_5_3_1 (n : Nat) : List Nat := bif Nat.blt n 433 then [0, 4, 15, 21, 22, 37, 46, 49, 53, 65, 79, 89, 94, 96, 104] else [0, 4, 15, 21, 22, 37, 46, 49, 53, 65, 79, 89, 94, 96, 104]
def am_lb_5_3_2 (n : Nat) : List Nat := bif Nat.blt n 435 then [0, 4, 15, 21, 22, 37, 46, 49, 53, 65, 79, 89, 94, 96, 104] else [0, 4, 15, 21, 22, 37, 46, 49, 53, 65, 79, 89, 94, 96, 104]
def am_lb_5_3_3 (n : Nat) : List Nat := bif Nat.blt n 437 then [0, 4, 15, 21, 22, 37, 46, 49, 53, 65, 79, 89, 94, 96, 104] else [0, 4, 15, 21, 22, 37, 46, 49, 53, 65, 79, 89, 94, 96, 104]
def am_lb_5_3_4 (n : Nat) : List Nat := bif Nat.blt n 439 then [0, 4, 15, 21, 22, 46, 49, 53, 65, 104] else [0, 13, 18, 23, 34, 41, 44, 53, 56, 60, 67, 72, 79, 84, 90, 103, 106, 114, 120, 126, 132, 134, 139, 155, 165, 172, 194, 197, 202, 206, 215, 219, 223]
def am_lb_5_3 (n : Nat) : List Nat := bif Nat.blt n 434 then bif Nat.blt n 432 then am_lb_5_3_0 n else am_lb_5_3_1 n else bif Nat.blt n 436 then am_lb_5_3_2 n else bif Nat.blt n 438 then am_lb_5_3_3 n else am_lb_5_3_4 n
def am_lb_5_4_0 (n : Nat) : List Nat := bif Nat.blt n 441 then [0, 9] else [0, 23, 32, 52]
def am_lb_5_4_1 (n : Nat) : List Nat := bif Nat.blt n 443 then [0, 2, 10, 15, 24, 32, 38, 44, 50, 53, 61] else [0, 16, 28, 43, 51, 53]
def am_lb_5_4_2 (n : Nat) : List Nat := bif Nat.blt n 445 then [0, 10, 12, 18, 21, 27, 30, 36, 44, 50, 60, 66, 70, 71, 78, 87, 94, 105, 116, 120, 121, 134, 146, 150, 151, 178] else [0, 12, 17, 32]
def am_lb_5_4_3 (n : Nat) : List Nat := bif Nat.blt n 447 then [0, 11, 20, 26, 35, 44, 48, 51, 60, 69, 75, 81, 85, 87, 105, 133, 140, 143, 149, 152, 161, 168, 176, 183, 187, 193] else [0, 19, 25, 34, 42, 46, 52, 61, 68]
def am_lb_5_4_4 (n : Nat) : List Nat := bif Nat.blt n 449 then [0, 3, 6, 12, 18, 23, 42, 64, 91, 94, 102, 108, 125] else [0, 9, 19, 39, 61, 69, 74, 83, 105, 109, 112, 119, 124, 128, 137, 143]
def am_lb_5_4 (n : Nat) : List Nat := bif Nat.blt n 444 then bif Nat.blt n 442 then am_lb_5_4_0 n else am_lb_5_4_1 n else bif Nat.blt n 446 then am_lb_5_4_2 n else bif Nat.blt n 448 then am_lb_5_4_3 n else am_lb_5_4_4 n
def am_lb_5_5_0 (n : Nat) : List Nat := bif Nat.blt n 451 then [0, 8, 11, 15, 24, 28, 29, 39, 41, 58, 66, 75, 85, 90, 96, 98, 102, 113, 122, 128, 137, 146, 154, 157, 168, 174, 180, 184, 188, 189, 194, 202, 205, 207, 215, 228] else [0, 5, 13, 16, 17, 22, 28, 29, 53, 65, 71, 99]
def am_lb_5_5_1 (n : Nat) : List Nat := bif Nat.blt n 453 then [0, 4, 12, 18, 27, 32, 43, 59, 63, 64, 72, 77, 80, 90, 96] else [0, 5, 7, 12, 25, 31, 35, 40, 48, 54, 60, 80, 85, 89, 96, 100, 101]
def am_lb_5_5_2 (n : Nat) : List Nat := bif Nat.blt n 455 then am_l454_0 ++ (am_l454_1) else [0, 11, 15, 20, 24, 29, 33, 34, 43, 46, 53, 56, 57]
def am_lb_5_5_3 (n : Nat) : List Nat := bif Nat.blt n 457 then [0, 4, 11, 19] else [0, 4, 8, 10, 25, 46, 51, 66, 69, 87, 108, 127, 136, 141, 143, 151, 169, 175, 181, 196, 217, 228, 233, 234, 241]
def am_lb_5_5_4 (n : Nat) : List Nat := bif Nat.blt n 459 then [0, 4, 8, 25, 31, 35, 37, 41, 56, 62, 68, 78, 85, 93, 102] else [0, 23]
def am_lb_5_5 (n : Nat) : List Nat := bif Nat.blt n 454 then bif Nat.blt n 452 then am_lb_5_5_0 n else am_lb_5_5_1 n else bif Nat.blt n 456 then am_lb_5_5_2 n else bif Nat.blt n 458 then am_lb_5_5_3 n else am_lb_5_5_4 n
def am_lb_5_6_0 (n : Nat) : List Nat := bif Nat.blt n 461 then [0, 17, 19, 25, 34, 38, 57, 58] else [0, 5, 14, 20, 31, 36, 53, 57, 58, 66, 69, 80, 85, 102, 106, 107, 115, 120, 123, 134, 140]
def am_lb_5_6_1 (n : Nat) : List Nat := bif Nat.blt n 463 then [0, 6, 17, 28, 34, 59, 62, 73, 81, 86, 108, 115, 138, 147, 170, 187, 200, 209, 235, 256, 260, 267, 293, 302, 305, 312, 338, 347, 353] else [0, 7, 12, 15, 18, 21]
def am_lb_5_6_2 (n : Nat) : List Nat := bif Nat.blt n 465 then [0, 11, 14, 17] else [0, 5, 17]
def am_lb_5_6_3 (n : Nat) : List Nat := bif Nat.blt n 467 then [0, 7, 12, 15, 18] else [0, 11, 14, 17]
def am_lb_5_6_4 (n : Nat) : List Nat := bif Nat.blt n 469 then [0, 5, 17] else [0, 8, 13, 17, 21]
def am_lb_5_6 (n : Nat) : List Nat := bif Nat.blt n 464 then bif Nat.blt n 462 then am_lb_5_6_0 n else am_lb_5_6_1 n else bif Nat.blt n 466 then am_lb_5_6_2 n else bif Nat.blt n 468 then am_lb_5_6_3 n else am_lb_5_6_4 n
def am_lb_5_7_0 (n : Nat) : List Nat := bif Nat.blt n 471 then [0, 6, 9] else [0, 5, 12, 15, 19, 20, 23, 26, 30, 34, 40, 45, 46, 52, 53, 56]
def am_lb_5_7_1 (n : Nat) : List Nat := bif Nat.blt n 473 then [0, 6, 9, 13, 19, 22, 26, 27, 37, 39, 48, 52, 56, 65, 70, 79, 85] else [0, 9, 12, 16, 20]
def am_lb_5_7_2 (n : Nat) : List Nat := bif Nat.blt n 475 then [0, 9, 12, 27] else [0, 9, 21]
def am_lb_5_7_3 (n : Nat) : List Nat := bif Nat.blt n 477 then [0, 8, 13, 17, 21] else [0, 6, 9]
def am_lb_5_7_4 (n : Nat) : List Nat := bif Nat.blt n 479 then [0, 14, 17, 23, 26, 30, 42, 47, 59, 68] else [0, 12, 15, 19, 25, 28, 32, 33, 43, 45, 49, 58, 63, 72, 78]
def am_lb_5_7 (n : Nat) : List Nat := bif Nat.blt n 474 then bif Nat.blt n 472 then am_lb_5_7_0 n else am_lb_5_7_1 n else bif Nat.blt n 476 then am_lb_5_7_2 n else bif Nat.blt n 478 then am_lb_5_7_3 n else am_lb_5_7_4 n
def am_lb_5 (n : Nat) : List Nat := bif Nat.blt n 440 then bif Nat.blt n 420 then bif Nat.blt n 410 then am_lb_5_0 n else am_lb_5_1 n else bif Nat.blt n 430 then am_lb_5_2 n else am_lb_5_3 n else bif Nat.blt n 460 then bif Nat.blt n 450 then am_lb_5_4 n else am_lb_5_5 n else bif Nat.blt n 470 then am_lb_5_6 n else am_lb_5_7 n
def am_lb_6_0_0 (n : Nat) : List Nat := bif Nat.blt n 481 then [0, 7, 12, 15, 18] else [0, 11, 14, 17]
def am_lb_6_0_1 (n : Nat) : List Nat := bif Nat.blt n 483 then [0, 5, 17] else [0, 8, 13, 17, 21, 25, 29]
def am_lb_6_0_2 (n : Nat) : List Nat := bif Nat.blt n 485 then [0, 12, 15, 18] else [0, 6, 18]
def am_lb_6_0_3 (n : Nat) : List Nat := bif Nat.blt n 487 then [0, 10, 15, 19, 23, 27, 31] else [0, 13, 16, 19]
def am_lb_6_0_4 (n : Nat) : List Nat := bif Nat.blt n 489 then [0, 7, 20] else [0, 10, 15, 19, 23]
def am_lb_6_0 (n : Nat) : List Nat := bif Nat.blt n 484 then bif Nat.blt n 482 then am_lb_6_0_0 n else am_lb_6_0_1 n else bif Nat.blt n 486 then am_lb_6_0_2 n else bif Nat.blt n 488 then am_lb_6_0_3 n else am_lb_6_0_4 n
def am_lb_6_1_0 (n : Nat) : List Nat := bif Nat.blt n 491 then [0, 7, 10] else [0, 5, 18, 23, 26, 32, 35, 39, 49, 55, 65]
def am_lb_6_1_1 (n : Nat) : List Nat := bif Nat.blt n 493 then [0, 6, 9, 13, 26, 29, 33, 39, 42, 46, 47, 57, 59, 63, 76, 86] else [0, 10, 15, 19, 23, 27, 31]
def am_lb_6_1_2 (n : Nat) : List Nat := bif Nat.blt n 495 then [0, 13, 16, 19] else [0, 7, 20]
def am_lb_6_1_3 (n : Nat) : List Nat := bif Nat.blt n 497 then [0, 8, 13, 17, 21] else [0, 6, 9]
def am_lb_6_1_4 (n : Nat) : List Nat := bif Nat.blt n 499 then [0, 5, 7, 56, 57, 60, 64, 65, 69, 70, 74, 75, 79, 80, 83, 85, 86, 89, 90, 91, 94, 95, 96, 99, 102, 106, 110, 113, 114, 115, 119] else [0, 6, 9, 13, 20, 23, 27, 28, 38, 40, 44, 51, 56, 63, 68, 75, 80, 87, 93, 101, 102, 108, 117, 123]
def am_lb_6_1 (n : Nat) : List Nat := bif Nat.blt n 494 then bif Nat.blt n 492 then am_lb_6_1_0 n else am_lb_6_1_1 n else bif Nat.blt n 496 then am_lb_6_1_2 n else bif Nat.blt n 498 then am_lb_6_1_3 n else am_lb_6_1_4 n
def am_lb_6_2_0 (n : Nat) : List Nat := bif Nat.blt n 501 then [0, 7, 11, 14] else [0, 5, 8, 23]
def am_lb_6_2_1 (n : Nat) : List Nat := bif Nat.blt n 503 then [0, 5, 17] else [0, 7, 11, 14]
def am_lb_6_2_2 (n : Nat) : List Nat := bif Nat.blt n 505 then [0, 5, 8] else [0, 7, 10, 18]
def am_lb_6_2_3 (n : Nat) : List Nat := bif Nat.blt n 507 then [0, 8, 11, 15, 16, 26, 30, 35] else [0, 6, 9, 12]
def am_lb_6_2_4 (n : Nat) : List Nat := bif Nat.blt n 509 then [0, 6, 9, 23] else [0, 6, 17]
def am_lb_6_2 (n : Nat) : List Nat := bif Nat.blt n 504 then bif Nat.blt n 502 then am_lb_6_2_0 n else am_lb_6_2_1 n else bif Nat.blt n 506 then am_lb_6_2_2 n else bif Nat.blt n 508 then am_lb_6_2_3 n else am_lb_6_2_4 n
def am_lb_6_3_0 (n : Nat) : List Nat := bif Nat.blt n 511 then [0, 8, 13, 17, 21] else [0, 6, 9]
def am_lb_6_3_1 (n : Nat) : List Nat := bif Nat.blt n 513 then [0, 5, 14, 17, 19, 22] else [0, 6, 9, 13, 21, 24, 28, 29, 39, 43, 55]
def am_lb_6_3_2 (n : Nat) : List Nat := bif Nat.blt n 515 then [0, 7, 12, 15] else [0, 11, 14, 17]
def am_lb_6_3_3 (n : Nat) : List Nat := bif Nat.blt n 517 then [0, 5, 17] else [0, 8, 13, 17, 21, 25]
def am_lb_6_3_4 (n : Nat) : List Nat := bif Nat.blt n 519 then [0, 12, 15, 18] else [0, 6, 18]
def am_lb_6_3 (n : Nat) : List Nat := bif Nat.blt n 514 then bif Nat.blt n 512 then am_lb_6_3_0 n else am_lb_6_3_1 n else bif Nat.blt n 516 then am_lb_6_3_2 n else bif Nat.blt n 518 then am_lb_6_3_3 n else am_lb_6_3_4 n
def am_lb_6_4_0 (n : Nat) : List Nat := bif Nat.blt n 521 then [0, 7, 12, 15, 18, 21] else [0, 11, 14, 17]
def am_lb_6_4_1 (n : Nat) : List Nat := bif Nat.blt n 523 then [0, 5, 17] else [0, 10, 15, 19, 23, 27, 31]
def am_lb_6_4_2 (n : Nat) : List Nat := bif Nat.blt n 525 then [0, 13, 16, 19] else [0, 7, 20]
def am_lb_6_4_3 (n : Nat) : List Nat := bif Nat.blt n 527 then [0, 7, 12, 15, 18] else [0, 11, 14, 17]
def am_lb_6_4_4 (n : Nat) : List Nat := bif Nat.blt n 529 then [0, 5, 17] else [0, 8, 11, 15, 16, 20, 24, 28]
def am_lb_6_4 (n : Nat) : List Nat := bif Nat.blt n 524 then bif Nat.blt n 522 then am_lb_6_4_0 n else am_lb_6_4_1 n else bif Nat.blt n 526 then am_lb_6_4_2 n else bif Nat.blt n 528 then am_lb_6_4_3 n else am_lb_6_4_4 n
def am_lb_6_5_0 (n : Nat) : List Nat := bif Nat.blt n 531 then [0, 6, 9, 24] else [0, 6, 18]
def am_lb_6_5_1 (n : Nat) : List Nat := bif Nat.blt n 533 then [0, 7, 12, 15, 18] else [0, 11, 14, 17]
def am_lb_6_5_2 (n : Nat) : List Nat := bif Nat.blt n 535 then [0, 5, 17] else [0, 8, 13, 17, 21]
def am_lb_6_5_3 (n : Nat) : List Nat := bif Nat.blt n 537 then [0, 6, 9] else [0, 6, 9, 20, 24, 25, 28, 32, 40, 47, 57, 64, 69, 72, 77, 89, 98]
def am_lb_6_5_4 (n : Nat) : List Nat := bif Nat.blt n 539 then [0, 7, 10, 14, 21, 26, 37, 40, 45, 56, 59, 63, 64, 74, 76, 80, 87, 92, 101, 107] else [0, 7, 12, 15, 18]
def am_lb_6_5 (n : Nat) : List Nat := bif Nat.blt n 534 then bif Nat.blt n 532 then am_lb_6_5_0 n else am_lb_6_5_1 n else bif Nat.blt n 536 then am_lb_6_5_2 n else bif Nat.blt n 538 then am_lb_6_5_3 n else am_lb_6_5_4 n
def am_lb_6_6_0 (n : Nat) : List Nat := bif Nat.blt n 541 then [0, 11, 14, 17] else [0, 5, 17]
def am_lb_6_6_1 (n : Nat) : List Nat := bif Nat.blt n 543 then [0, 10, 15, 19, 23] else [0, 13, 16, 19]
def am_lb_6_6_2 (n : Nat) : List Nat := bif Nat.blt n 545 then [0, 7, 20] else [0, 7, 12, 15, 18, 21]
def am_lb_6_6_3 (n : Nat) : List Nat := bif Nat.blt n 547 then [0, 11, 14, 17] else [0, 5, 17]
def am_lb_6_6_4 (n : Nat) : List Nat := bif Nat.blt n 549 then [0, 8, 13, 17, 21] else [0, 6, 9]
def am_lb_6_6 (n : Nat) : List Nat := bif Nat.blt n 544 then bif Nat.blt n 542 then am_lb_6_6_0 n else am_lb_6_6_1 n else bif Nat.blt n 546 then am_lb_6_6_2 n else bif Nat.blt n 548 then am_lb_6_6_3 n else am_lb_6_6_4 n
def am_lb_6_7_0 (n : Nat) : List Nat := bif Nat.blt n 551 then [0, 14, 17, 23, 26, 30, 42, 51] else [0, 12, 15, 19, 25, 28, 32, 33, 43, 45, 49, 58, 64]
def am_lb_6_7_1 (n : Nat) : List Nat := bif Nat.blt n 553 then [0, 7, 12, 15, 18] else [0, 5, 8]
def am_lb_6_7_2 (n : Nat) : List Nat := bif Nat.blt n 555 then [0, 5, 10, 13, 16, 24, 35] else [0, 6, 9, 13, 14, 24, 35, 39, 40, 43, 50, 52, 62, 67, 69, 75, 80, 83, 88]
def am_lb_6_7_3 (n : Nat) : List Nat := bif Nat.blt n 557 then [0, 10, 16, 21, 30, 36, 39, 45, 56, 69, 77, 88, 94, 111, 114, 122, 128, 134, 140, 142, 166, 192, 197, 210, 212] else [0, 5, 11, 13, 15, 20, 38, 43, 52, 58, 61, 83, 103, 109, 131, 152, 178, 183, 190]
def am_lb_6_7_4 (n : Nat) : List Nat := bif Nat.blt n 559 then [0, 10, 15, 19, 23] else [0, 7, 10]
def am_lb_6_7 (n : Nat) : List Nat := bif Nat.blt n 554 then bif Nat.blt n 552 then am_lb_6_7_0 n else am_lb_6_7_1 n else bif Nat.blt n 556 then am_lb_6_7_2 n else bif Nat.blt n 558 then am_lb_6_7_3 n else am_lb_6_7_4 n
def am_lb_6 (n : Nat) : List Nat := bif Nat.blt n 520 then bif Nat.blt n 500 then bif Nat.blt n 490 then am_lb_6_0 n else am_lb_6_1 n else bif Nat.blt n 510 then am_lb_6_2 n else am_lb_6_3 n else bif Nat.blt n 540 then bif Nat.blt n 530 then am_lb_6_4 n else am_lb_6_5 n else bif Nat.blt n 550 then am_lb_6_6 n else am_lb_6_7 n
def am_lb_7_0_0 (n : Nat) : List Nat := bif Nat.blt n 561 then [0, 5, 11, 14, 20, 23, 29, 33, 68, 70, 74, 76, 79, 82, 86, 88, 91, 94, 95, 97, 101, 103, 107] else [0, 4, 7, 11, 15, 18]
def am_lb_7_0_1 (n : Nat) : List Nat := bif Nat.blt n 563 then [0, 6, 9, 13, 14, 24, 30, 33, 34, 43, 50, 54, 60, 63, 67, 68, 71, 78, 80, 84, 92, 97, 110, 115, 130, 135, 145, 152] else [0, 10, 15, 19, 23]
def am_lb_7_0_2 (n : Nat) : List Nat := bif Nat.blt n 565 then [0, 7, 10] else [0, 5, 14, 17, 25, 28, 32, 33, 36, 44, 52, 59, 66, 71, 73, 76, 80, 83, 86, 88, 91, 98, 100, 103, 106, 107, 112, 120, 126]
def am_lb_7_0_3 (n : Nat) : List Nat := bif Nat.blt n 567 then [0, 6, 9, 13, 20, 23, 31, 34, 38, 39, 49, 51, 55, 61, 70, 79, 82, 102, 108] else [0, 5, 8, 11, 14]
def am_lb_7_0_4 (n : Nat) : List Nat := bif Nat.blt n 569 then [0, 5, 8, 22] else [0, 5, 16]
def am_lb_7_0 (n : Nat) : List Nat := bif Nat.blt n 564 then bif Nat.blt n 562 then am_lb_7_0_0 n else am_lb_7_0_1 n else bif Nat.blt n 566 then am_lb_7_0_2 n else bif Nat.blt n 568 then am_lb_7_0_3 n else am_lb_7_0_4 n
def am_lb_7_1_0 (n : Nat) : List Nat := bif Nat.blt n 571 then [0, 7, 12, 15, 18, 21] else [0, 11, 14, 17]
def am_lb_7_1_1 (n : Nat) : List Nat := bif Nat.blt n 573 then [0, 5, 17] else [0, 12, 17, 21, 25, 29, 33]
def am_lb_7_1_2 (n : Nat) : List Nat := bif Nat.blt n 575 then [0, 9, 12, 29] else [0, 9, 23]
def am_lb_7_1_3 (n : Nat) : List Nat := bif Nat.blt n 577 then [0, 8, 13, 17, 21] else [0, 12, 15, 18]
def am_lb_7_1_4 (n : Nat) : List Nat := bif Nat.blt n 579 then [0, 6, 18] else [0, 10, 15, 19]
def am_lb_7_1 (n : Nat) : List Nat := bif Nat.blt n 574 then bif Nat.blt n 572 then am_lb_7_1_0 n else am_lb_7_1_1 n else bif Nat.blt n 576 then am_lb_7_1_2 n else bif Nat.blt n 578 then am_lb_7_1_3 n else am_lb_7_1_4 n
def am_lb_7_2_0 (n : Nat) : List Nat := bif Nat.blt n 581 then [0, 7, 10] else [0, 5, 12, 23, 26, 30, 33, 37, 40, 44, 50]
def am_lb_7_2_1 (n : Nat) : List Nat := bif Nat.blt n 583 then [0, 5, 6, 9, 10, 17, 18, 25, 26, 29, 33, 37] else [0, 10, 13, 18, 21, 26, 29, 33, 34, 43, 49, 56, 67, 78, 90, 96]
def am_lb_7_2_2 (n : Nat) : List Nat := bif Nat.blt n 585 then [0, 8, 13, 17, 21] else [0, 6, 9]
def am_lb_7_2_3 (n : Nat) : List Nat := bif Nat.blt n 587 then [0, 11, 14, 22, 48, 49, 52, 55, 59, 60, 63, 66, 67, 68, 72] else [0, 12, 15, 19, 25, 28, 32, 33, 43, 45, 49, 58, 63, 72, 78]
def am_lb_7_2_4 (n : Nat) : List Nat := bif Nat.blt n 589 then [0, 10, 15, 19, 23, 27, 31] else [0, 13, 16, 19]
def am_lb_7_2 (n : Nat) : List Nat := bif Nat.blt n 584 then bif Nat.blt n 582 then am_lb_7_2_0 n else am_lb_7_2_1 n else bif Nat.blt n 586 then am_lb_7_2_2 n else bif Nat.blt n 588 then am_lb_7_2_3 n else am_lb_7_2_4 n
def am_lb_7_3_0 (n : Nat) : List Nat := bif Nat.blt n 591 then [0, 7, 20] else [0, 8, 13, 17, 21]
def am_lb_7_3_1 (n : Nat) : List Nat := bif Nat.blt n 593 then [0, 6, 9] else [0, 5, 7, 44, 45, 48, 52, 53, 57, 58, 62, 63, 69, 73, 74, 75, 76, 80, 81, 85]
def am_lb_7_3_2 (n : Nat) : List Nat := bif Nat.blt n 595 then [0, 6, 9, 13, 19, 22, 26, 27, 37, 39, 43, 50, 55, 62, 67, 74, 79, 88, 92, 93, 94, 99, 108, 113, 125, 135, 136, 144, 147, 156, 161, 178, 194, 212, 213, 221] else [0, 10, 15, 19, 23]
def am_lb_7_3_3 (n : Nat) : List Nat := bif Nat.blt n 597 then [0, 7, 10] else [0, 5, 12, 20, 23, 27, 30, 34, 37, 41, 45, 53, 58]
def am_lb_7_3_4 (n : Nat) : List Nat := bif Nat.blt n 599 then [0, 6, 9, 14, 17, 21, 27, 30, 34, 35, 45, 47, 51, 57, 60, 66, 72, 73] else [0, 12, 17, 21, 25, 29]
def am_lb_7_3 (n : Nat) : List Nat := bif Nat.blt n 594 then bif Nat.blt n 592 then am_lb_7_3_0 n else am_lb_7_3_1 n else bif Nat.blt n 596 then am_lb_7_3_2 n else bif Nat.blt n 598 then am_lb_7_3_3 n else am_lb_7_3_4 n
def am_lb_7_4_0 (n : Nat) : List Nat := bif Nat.blt n 601 then [0, 9, 12, 29] else [0, 9, 23]
def am_lb_7_4_1 (n : Nat) : List Nat := bif Nat.blt n 603 then [0, 6, 9, 12, 15] else [0, 6, 9, 20, 24, 25, 31]
def am_lb_7_4_2 (n : Nat) : List Nat := bif Nat.blt n 605 then [0, 6, 14, 18, 19, 25] else [0, 12, 17, 21, 25, 29]
def am_lb_7_4_3 (n : Nat) : List Nat := bif Nat.blt n 607 then [0, 9, 12, 29] else [0, 9, 23]
def am_lb_7_4_4 (n : Nat) : List Nat := bif Nat.blt n 609 then [0, 7, 12, 15] else [0, 11, 14, 17]
def am_lb_7_4 (n : Nat) : List Nat := bif Nat.blt n 604 then bif Nat.blt n 602 then am_lb_7_4_0 n else am_lb_7_4_1 n else bif Nat.blt n 606 then am_lb_7_4_2 n else bif Nat.blt n 608 then am_lb_7_4_3 n else am_lb_7_4_4 n
def am_lb_7_5_0 (n : Nat) : List Nat := bif Nat.blt n 611 then [0, 5, 17] else [0, 8, 13, 17, 21]
def am_lb_7_5_1 (n : Nat) : List Nat := bif Nat.blt n 613 then [0, 6, 9] else [0, 7, 10, 18, 21, 29, 32, 36, 37, 40, 48, 49]
def am_lb_7_5_2 (n : Nat) : List Nat := bif Nat.blt n 615 then [0, 8, 12, 17, 20, 25, 28, 32, 33, 43, 45, 50] else [0, 9, 12, 16, 20, 24]
def am_lb_7_5_3 (n : Nat) : List Nat := bif Nat.blt n 617 then [0, 9, 12, 26] else [0, 9, 20]
def am_lb_7_5_4 (n : Nat) : List Nat := bif Nat.blt n 619 then [0, 8, 13, 17, 21] else [0, 6, 9]
def am_lb_7_5 (n : Nat) : List Nat := bif Nat.blt n 614 then bif Nat.blt n 612 then am_lb_7_5_0 n else am_lb_7_5_1 n else bif Nat.blt n 616 then am_lb_7_5_2 n else bif Nat.blt n 618 then am_lb_7_5_3 n else am_lb_7_5_4 n
def am_lb_7_6_0 (n : Nat) : List Nat := bif Nat.blt n 621 then [0, 5, 7, 52, 53, 57, 58, 62, 63, 67, 68, 72, 73, 77, 78, 82, 83, 87, 88, 92] else [0, 6, 9, 13, 20, 23, 27, 28, 38, 40, 44, 51, 56, 63, 68, 75, 80, 87, 92, 101, 109, 110]
def am_lb_7_6_1 (n : Nat) : List Nat := bif Nat.blt n 623 then [0, 8, 13, 17, 21] else [0, 6, 9]
def am_lb_7_6_2 (n : Nat) : List Nat := bif Nat.blt n 625 then [0, 5, 13, 16, 17, 48, 49, 53, 54, 58, 59, 63, 64, 67, 69, 73, 76, 80, 87, 91, 92] else [0, 6, 9, 13, 20, 23, 27, 28, 38, 40, 44, 51, 56, 63, 68, 75, 80, 89, 102]
def am_lb_7_6_3 (n : Nat) : List Nat := bif Nat.blt n 627 then [0, 6, 11, 14, 17] else [0, 9, 12, 15]
def am_lb_7_6_4 (n : Nat) : List Nat := bif Nat.blt n 629 then [0, 4, 15] else [0, 6, 11, 14]
def am_lb_7_6 (n : Nat) : List Nat := bif Nat.blt n 624 then bif Nat.blt n 622 then am_lb_7_6_0 n else am_lb_7_6_1 n else bif Nat.blt n 626 then am_lb_7_6_2 n else bif Nat.blt n 628 then am_lb_7_6_3 n else am_lb_7_6_4 n
def am_lb_7_7 (n : Nat) : List Nat := bif Nat.blt n 634 then bif Nat.blt n 632 then bif Nat.blt n 631 then [0, 9, 12, 15] else [0, 4, 15] else bif Nat.blt n 633 then [0, 7, 12, 15] else [0, 10, 13, 16] else bif Nat.blt n 636 then bif Nat.blt n 635 then [0, 5, 16] else [0, 11, 14, 18] else bif Nat.blt n 637 then [0, 11, 14, 29] else [0, 11, 23]
def am_lb_7 (n : Nat) : List Nat := bif Nat.blt n 600 then bif Nat.blt n 580 then bif Nat.blt n 570 then am_lb_7_0 n else am_lb_7_1 n else bif Nat.blt n 590 then am_lb_7_2 n else am_lb_7_3 n else bif Nat.blt n 620 then bif Nat.blt n 610 then am_lb_7_4 n else am_lb_7_5 n else bif Nat.blt n 630 then am_lb_7_6 n else am_lb_7_7 n
def am_lb (n : Nat) : List Nat := bif Nat.blt n 320 then bif Nat.blt n 160 then bif Nat.blt n 80 then am_lb_0 n else am_lb_1 n else bif Nat.blt n 240 then am_lb_2 n else am_lb_3 n else bif Nat.blt n 480 then bif Nat.blt n 400 then am_lb_4 n else am_lb_5 n else bif Nat.blt n 560 then am_lb_6 n else am_lb_7 n
def am_dep_0_0_0 (n : Nat) : Nat := bif Nat.blt n 1 then 20 else 3
def am_dep_0_0_1 (n : Nat) : Nat := bif Nat.blt n 3 then 0 else 2
def am_dep_0_0_2 (n : Nat) : Nat := bif Nat.blt n 5 then 0 else 0
def am_dep_0_0_3 (n : Nat) : Nat := bif Nat.blt n 7 then 0 else 0
def am_dep_0_0_4 (n : Nat) : Nat := bif Nat.blt n 9 then 0 else 0
def am_dep_0_0 (n : Nat) : Nat := bif Nat.blt n 4 then bif Nat.blt n 2 then am_dep_0_0_0 n else am_dep_0_0_1 n else bif Nat.blt n 6 then am_dep_0_0_2 n else bif Nat.blt n 8 then am_dep_0_0_3 n else am_dep_0_0_4 n
def am_dep_0_1_0 (n : Nat) : Nat := bif Nat.blt n 11 then 0 else 0
def am_dep_0_1_1 (n : Nat) : Nat := bif Nat.blt n 13 then 1 else 0
def am_dep_0_1_2 (n : Nat) : Nat := bif Nat.blt n 15 then 0 else 0
def am_dep_0_1_3 (n : Nat) : Nat := bif Nat.blt n 17 then 0 else 0
def am_dep_0_1_4 (n : Nat) : Nat := bif Nat.blt n 19 then 2 else 1
def am_dep_0_1 (n : Nat) : Nat := bif Nat.blt n 14 then bif Nat.blt n 12 then am_dep_0_1_0 n else am_dep_0_1_1 n else bif Nat.blt n 16 then am_dep_0_1_2 n else bif Nat.blt n 18 then am_dep_0_1_3 n else am_dep_0_1_4 n
def am_dep_0_2_0 (n : Nat) : Nat := bif Nat.blt n 21 then 0 else 0
def am_dep_0_2_1 (n : Nat) : Nat := bif Nat.blt n 23 then 1 else 0
def am_dep_0_2_2 (n : Nat) : Nat := bif Nat.blt n 25 then 0 else 0
def am_dep_0_2_3 (n : Nat) : Nat := bif Nat.blt n 27 then 11 else 10
def am_dep_0_2_4 (n : Nat) : Nat := bif Nat.blt n 29 then 0 else 0
def am_dep_0_2 (n : Nat) : Nat := bif Nat.blt n 24 then bif Nat.blt n 22 then am_dep_0_2_0 n else am_dep_0_2_1 n else bif Nat.blt n 26 then am_dep_0_2_2 n else bif Nat.blt n 28 then am_dep_0_2_3 n else am_dep_0_2_4 n
def am_dep_0_3_0 (n : Nat) : Nat := bif Nat.blt n 31 then 0 else 1
def am_dep_0_3_1 (n : Nat) : Nat := bif Nat.blt n 33 then 9 else 1
def am_dep_0_3_2 (n : Nat) : Nat := bif Nat.blt n 35 then 0 else 0
def am_dep_0_3_3 (n : Nat) : Nat := bif Nat.blt n 37 then 2 else 1
def am_dep_0_3_4 (n : Nat) : Nat := bif Nat.blt n 39 then 0 else 2
def am_dep_0_3 (n : Nat) : Nat := bif Nat.blt n 34 then bif Nat.blt n 32 then am_dep_0_3_0 n else am_dep_0_3_1 n else bif Nat.blt n 36 then am_dep_0_3_2 n else bif Nat.blt n 38 then am_dep_0_3_3 n else am_dep_0_3_4 n
def am_dep_0_4_0 (n : Nat) : Nat := bif Nat.blt n 41 then 1 else 0
def am_dep_0_4_1 (n : Nat) : Nat := bif Nat.blt n 43 then 1 else 1
def am_dep_0_4_2 (n : Nat) : Nat := bif Nat.blt n 45 then 2 else 1
def am_dep_0_4_3 (n : Nat) : Nat := bif Nat.blt n 47 then 0 else 0
def am_dep_0_4_4 (n : Nat) : Nat := bif Nat.blt n 49 then 2 else 0
def am_dep_0_4 (n : Nat) : Nat := bif Nat.blt n 44 then bif Nat.blt n 42 then am_dep_0_4_0 n else am_dep_0_4_1 n else bif Nat.blt n 46 then am_dep_0_4_2 n else bif Nat.blt n 48 then am_dep_0_4_3 n else am_dep_0_4_4 n
def am_dep_0_5_0 (n : Nat) : Nat := bif Nat.blt n 51 then 3 else 1
def am_dep_0_5_1 (n : Nat) : Nat := bif Nat.blt n 53 then 2 else 1
def am_dep_0_5_2 (n : Nat) : Nat := bif Nat.blt n 55 then 0 else 0
def am_dep_0_5_3 (n : Nat) : Nat := bif Nat.blt n 57 then 1 else 0
def am_dep_0_5_4 (n : Nat) : Nat := bif Nat.blt n 59 then 0 else 1
def am_dep_0_5 (n : Nat) : Nat := bif Nat.blt n 54 then bif Nat.blt n 52 then am_dep_0_5_0 n else am_dep_0_5_1 n else bif Nat.blt n 56 then am_dep_0_5_2 n else bif Nat.blt n 58 then am_dep_0_5_3 n else am_dep_0_5_4 n
def am_dep_0_6_0 (n : Nat) : Nat := bif Nat.blt n 61 then 0 else 2
def am_dep_0_6_1 (n : Nat) : Nat := bif Nat.blt n 63 then 1 else 0
def am_dep_0_6_2 (n : Nat) : Nat := bif Nat.blt n 65 then 0 else 1
def am_dep_0_6_3 (n : Nat) : Nat := bif Nat.blt n 67 then 0 else 2
def am_dep_0_6_4 (n : Nat) : Nat := bif Nat.blt n 69 then 3 else 2
def am_dep_0_6 (n : Nat) : Nat := bif Nat.blt n 64 then bif Nat.blt n 62 then am_dep_0_6_0 n else am_dep_0_6_1 n else bif Nat.blt n 66 then am_dep_0_6_2 n else bif Nat.blt n 68 then am_dep_0_6_3 n else am_dep_0_6_4 n
def am_dep_0_7_0 (n : Nat) : Nat := bif Nat.blt n 71 then 0 else 2
def am_dep_0_7_1 (n : Nat) : Nat := bif Nat.blt n 73 then 1 else 0
def am_dep_0_7_2 (n : Nat) : Nat := bif Nat.blt n 75 then 8 else 2
def am_dep_0_7_3 (n : Nat) : Nat := bif Nat.blt n 77 then 1 else 0
def am_dep_0_7_4 (n : Nat) : Nat := bif Nat.blt n 79 then 1 else 7
def am_dep_0_7 (n : Nat) : Nat := bif Nat.blt n 74 then bif Nat.blt n 72 then am_dep_0_7_0 n else am_dep_0_7_1 n else bif Nat.blt n 76 then am_dep_0_7_2 n else bif Nat.blt n 78 then am_dep_0_7_3 n else am_dep_0_7_4 n
def am_dep_0 (n : Nat) : Nat := bif Nat.blt n 40 then bif Nat.blt n 20 then bif Nat.blt n 10 then am_dep_0_0 n else am_dep_0_1 n else bif Nat.blt n 30 then am_dep_0_2 n else am_dep_0_3 n else bif Nat.blt n 60 then bif Nat.blt n 50 then am_dep_0_4 n else am_dep_0_5 n else bif Nat.blt n 70 then am_dep_0_6 n else am_dep_0_7 n
def am_dep_1_0_0 (n : Nat) : Nat := bif Nat.blt n 81 then 1 else 1
def am_dep_1_0_1 (n : Nat) : Nat := bif Nat.blt n 83 then 0 else 6
def am_dep_1_0_2 (n : Nat) : Nat := bif Nat.blt n 85 then 4 else 0
def am_dep_1_0_3 (n : Nat) : Nat := bif Nat.blt n 87 then 1 else 3
def am_dep_1_0_4 (n : Nat) : Nat := bif Nat.blt n 89 then 2 else 0
def am_dep_1_0 (n : Nat) : Nat := bif Nat.blt n 84 then bif Nat.blt n 82 then am_dep_1_0_0 n else am_dep_1_0_1 n else bif Nat.blt n 86 then am_dep_1_0_2 n else bif Nat.blt n 88 then am_dep_1_0_3 n else am_dep_1_0_4 n
def am_dep_1_1_0 (n : Nat) : Nat := bif Nat.blt n 91 then 0 else 1
def am_dep_1_1_1 (n : Nat) : Nat := bif Nat.blt n 93 then 5 else 4
def am_dep_1_1_2 (n : Nat) : Nat := bif Nat.blt n 95 then 2 else 0
def am_dep_1_1_3 (n : Nat) : Nat := bif Nat.blt n 97 then 2 else 3
def am_dep_1_1_4 (n : Nat) : Nat := bif Nat.blt n 99 then 1 else 2
def am_dep_1_1 (n : Nat) : Nat := bif Nat.blt n 94 then bif Nat.blt n 92 then am_dep_1_1_0 n else am_dep_1_1_1 n else bif Nat.blt n 96 then am_dep_1_1_2 n else bif Nat.blt n 98 then am_dep_1_1_3 n else am_dep_1_1_4 n
def am_dep_1_2_0 (n : Nat) : Nat := bif Nat.blt n 101 then 1 else 0
def am_dep_1_2_1 (n : Nat) : Nat := bif Nat.blt n 103 then 0 else 2
def am_dep_1_2_2 (n : Nat) : Nat := bif Nat.blt n 105 then 1 else 0
def am_dep_1_2_3 (n : Nat) : Nat := bif Nat.blt n 107 then 4 else 3
def am_dep_1_2_4 (n : Nat) : Nat := bif Nat.blt n 109 then 1 else 0
def am_dep_1_2 (n : Nat) : Nat := bif Nat.blt n 104 then bif Nat.blt n 102 then am_dep_1_2_0 n else am_dep_1_2_1 n else bif Nat.blt n 106 then am_dep_1_2_2 n else bif Nat.blt n 108 then am_dep_1_2_3 n else am_dep_1_2_4 n
def am_dep_1_3_0 (n : Nat) : Nat := bif Nat.blt n 111 then 2 else 0
def am_dep_1_3_1 (n : Nat) : Nat := bif Nat.blt n 113 then 0 else 1
def am_dep_1_3_2 (n : Nat) : Nat := bif Nat.blt n 115 then 0 else 2
def am_dep_1_3_3 (n : Nat) : Nat := bif Nat.blt n 117 then 1 else 1
def am_dep_1_3_4 (n : Nat) : Nat := bif Nat.blt n 119 then 0 else 3
def am_dep_1_3 (n : Nat) : Nat := bif Nat.blt n 114 then bif Nat.blt n 112 then am_dep_1_3_0 n else am_dep_1_3_1 n else bif Nat.blt n 116 then am_dep_1_3_2 n else bif Nat.blt n 118 then am_dep_1_3_3 n else am_dep_1_3_4 n
def am_dep_1_4_0 (n : Nat) : Nat := bif Nat.blt n 121 then 0 else 4
def am_dep_1_4_1 (n : Nat) : Nat := bif Nat.blt n 123 then 3 else 2
def am_dep_1_4_2 (n : Nat) : Nat := bif Nat.blt n 125 then 0 else 1
def am_dep_1_4_3 (n : Nat) : Nat := bif Nat.blt n 127 then 0 else 0
def am_dep_1_4_4 (n : Nat) : Nat := bif Nat.blt n 129 then 1 else 0
def am_dep_1_4 (n : Nat) : Nat := bif Nat.blt n 124 then bif Nat.blt n 122 then am_dep_1_4_0 n else am_dep_1_4_1 n else bif Nat.blt n 126 then am_dep_1_4_2 n else bif Nat.blt n 128 then am_dep_1_4_3 n else am_dep_1_4_4 n
def am_dep_1_5_0 (n : Nat) : Nat := bif Nat.blt n 131 then 3 else 2
def am_dep_1_5_1 (n : Nat) : Nat := bif Nat.blt n 133 then 6 else 5
def am_dep_1_5_2 (n : Nat) : Nat := bif Nat.blt n 135 then 4 else 3
def am_dep_1_5_3 (n : Nat) : Nat := bif Nat.blt n 137 then 2 else 0
def am_dep_1_5_4 (n : Nat) : Nat := bif Nat.blt n 139 then 2 else 0
def am_dep_1_5 (n : Nat) : Nat := bif Nat.blt n 134 then bif Nat.blt n 132 then am_dep_1_5_0 n else am_dep_1_5_1 n else bif Nat.blt n 136 then am_dep_1_5_2 n else bif Nat.blt n 138 then am_dep_1_5_3 n else am_dep_1_5_4 n
def am_dep_1_6_0 (n : Nat) : Nat := bif Nat.blt n 141 then 1 else 0
def am_dep_1_6_1 (n : Nat) : Nat := bif Nat.blt n 143 then 4 else 3
def am_dep_1_6_2 (n : Nat) : Nat := bif Nat.blt n 145 then 0 else 3
def am_dep_1_6_3 (n : Nat) : Nat := bif Nat.blt n 147 then 0 else 6
def am_dep_1_6_4 (n : Nat) : Nat := bif Nat.blt n 149 then 5 else 4
def am_dep_1_6 (n : Nat) : Nat := bif Nat.blt n 144 then bif Nat.blt n 142 then am_dep_1_6_0 n else am_dep_1_6_1 n else bif Nat.blt n 146 then am_dep_1_6_2 n else bif Nat.blt n 148 then am_dep_1_6_3 n else am_dep_1_6_4 n
def am_dep_1_7_0 (n : Nat) : Nat := bif Nat.blt n 151 then 3 else 2
def am_dep_1_7_1 (n : Nat) : Nat := bif Nat.blt n 153 then 1 else 1
def am_dep_1_7_2 (n : Nat) : Nat := bif Nat.blt n 155 then 1 else 0
def am_dep_1_7_3 (n : Nat) : Nat := bif Nat.blt n 157 then 1 else 0
def am_dep_1_7_4 (n : Nat) : Nat := bif Nat.blt n 159 then 1 else 7
def am_dep_1_7 (n : Nat) : Nat := bif Nat.blt n 154 then bif Nat.blt n 152 then am_dep_1_7_0 n else am_dep_1_7_1 n else bif Nat.blt n 156 then am_dep_1_7_2 n else bif Nat.blt n 158 then am_dep_1_7_3 n else am_dep_1_7_4 n
def am_dep_1 (n : Nat) : Nat := bif Nat.blt n 120 then bif Nat.blt n 100 then bif Nat.blt n 90 then am_dep_1_0 n else am_dep_1_1 n else bif Nat.blt n 110 then am_dep_1_2 n else am_dep_1_3 n else bif Nat.blt n 140 then bif Nat.blt n 130 then am_dep_1_4 n else am_dep_1_5 n else bif Nat.blt n 150 then am_dep_1_6 n else am_dep_1_7 n
def am_dep_2_0_0 (n : Nat) : Nat := bif Nat.blt n 161 then 2 else 1
def am_dep_2_0_1 (n : Nat) : Nat := bif Nat.blt n 163 then 1 else 0
def am_dep_2_0_2 (n : Nat) : Nat := bif Nat.blt n 165 then 3 else 6
def am_dep_2_0_3 (n : Nat) : Nat := bif Nat.blt n 167 then 5 else 4
def am_dep_2_0_4 (n : Nat) : Nat := bif Nat.blt n 169 then 3 else 2
def am_dep_2_0 (n : Nat) : Nat := bif Nat.blt n 164 then bif Nat.blt n 162 then am_dep_2_0_0 n else am_dep_2_0_1 n else bif Nat.blt n 166 then am_dep_2_0_2 n else bif Nat.blt n 168 then am_dep_2_0_3 n else am_dep_2_0_4 n
def am_dep_2_1_0 (n : Nat) : Nat := bif Nat.blt n 171 then 1 else 0
def am_dep_2_1_1 (n : Nat) : Nat := bif Nat.blt n 173 then 2 else 1
def am_dep_2_1_2 (n : Nat) : Nat := bif Nat.blt n 175 then 0 else 5
def am_dep_2_1_3 (n : Nat) : Nat := bif Nat.blt n 177 then 4 else 3
def am_dep_2_1_4 (n : Nat) : Nat := bif Nat.blt n 179 then 2 else 0
def am_dep_2_1 (n : Nat) : Nat := bif Nat.blt n 174 then bif Nat.blt n 172 then am_dep_2_1_0 n else am_dep_2_1_1 n else bif Nat.blt n 176 then am_dep_2_1_2 n else bif Nat.blt n 178 then am_dep_2_1_3 n else am_dep_2_1_4 n
def am_dep_2_2_0 (n : Nat) : Nat := bif Nat.blt n 181 then 2 else 4
def am_dep_2_2_1 (n : Nat) : Nat := bif Nat.blt n 183 then 4 else 0
def am_dep_2_2_2 (n : Nat) : Nat := bif Nat.blt n 185 then 3 else 1
def am_dep_2_2_3 (n : Nat) : Nat := bif Nat.blt n 187 then 1 else 0
def am_dep_2_2_4 (n : Nat) : Nat := bif Nat.blt n 189 then 1 else 2
def am_dep_2_2 (n : Nat) : Nat := bif Nat.blt n 184 then bif Nat.blt n 182 then am_dep_2_2_0 n else am_dep_2_2_1 n else bif Nat.blt n 186 then am_dep_2_2_2 n else bif Nat.blt n 188 then am_dep_2_2_3 n else am_dep_2_2_4 n
def am_dep_2_3_0 (n : Nat) : Nat := bif Nat.blt n 191 then 5 else 0
def am_dep_2_3_1 (n : Nat) : Nat := bif Nat.blt n 193 then 0 else 0
def am_dep_2_3_2 (n : Nat) : Nat := bif Nat.blt n 195 then 0 else 4
def am_dep_2_3_3 (n : Nat) : Nat := bif Nat.blt n 197 then 3 else 2
def am_dep_2_3_4 (n : Nat) : Nat := bif Nat.blt n 199 then 1 else 0
def am_dep_2_3 (n : Nat) : Nat := bif Nat.blt n 194 then bif Nat.blt n 192 then am_dep_2_3_0 n else am_dep_2_3_1 n else bif Nat.blt n 196 then am_dep_2_3_2 n else bif Nat.blt n 198 then am_dep_2_3_3 n else am_dep_2_3_4 n
def am_dep_2_4_0 (n : Nat) : Nat := bif Nat.blt n 201 then 2 else 1
def am_dep_2_4_1 (n : Nat) : Nat := bif Nat.blt n 203 then 1 else 3
def am_dep_2_4_2 (n : Nat) : Nat := bif Nat.blt n 205 then 0 else 0
def am_dep_2_4_3 (n : Nat) : Nat := bif Nat.blt n 207 then 0 else 3
def am_dep_2_4_4 (n : Nat) : Nat := bif Nat.blt n 209 then 2 else 1
def am_dep_2_4 (n : Nat) : Nat := bif Nat.blt n 204 then bif Nat.blt n 202 then am_dep_2_4_0 n else am_dep_2_4_1 n else bif Nat.blt n 206 then am_dep_2_4_2 n else bif Nat.blt n 208 then am_dep_2_4_3 n else am_dep_2_4_4 n
def am_dep_2_5_0 (n : Nat) : Nat := bif Nat.blt n 211 then 1 else 1
def am_dep_2_5_1 (n : Nat) : Nat := bif Nat.blt n 213 then 1 else 2
def am_dep_2_5_2 (n : Nat) : Nat := bif Nat.blt n 215 then 0 else 8
def am_dep_2_5_3 (n : Nat) : Nat := bif Nat.blt n 217 then 0 else 0
def am_dep_2_5_4 (n : Nat) : Nat := bif Nat.blt n 219 then 0 else 0
def am_dep_2_5 (n : Nat) : Nat := bif Nat.blt n 214 then bif Nat.blt n 212 then am_dep_2_5_0 n else am_dep_2_5_1 n else bif Nat.blt n 216 then am_dep_2_5_2 n else bif Nat.blt n 218 then am_dep_2_5_3 n else am_dep_2_5_4 n
def am_dep_2_6_0 (n : Nat) : Nat := bif Nat.blt n 221 then 7 else 2
def am_dep_2_6_1 (n : Nat) : Nat := bif Nat.blt n 223 then 1 else 1
def am_dep_2_6_2 (n : Nat) : Nat := bif Nat.blt n 225 then 0 else 0
def am_dep_2_6_3 (n : Nat) : Nat := bif Nat.blt n 227 then 2 else 1
def am_dep_2_6_4 (n : Nat) : Nat := bif Nat.blt n 229 then 1 else 3
def am_dep_2_6 (n : Nat) : Nat := bif Nat.blt n 224 then bif Nat.blt n 222 then am_dep_2_6_0 n else am_dep_2_6_1 n else bif Nat.blt n 226 then am_dep_2_6_2 n else bif Nat.blt n 228 then am_dep_2_6_3 n else am_dep_2_6_4 n
def am_dep_2_7_0 (n : Nat) : Nat := bif Nat.blt n 231 then 1 else 0
def am_dep_2_7_1 (n : Nat) : Nat := bif Nat.blt n 233 then 1 else 2
def am_dep_2_7_2 (n : Nat) : Nat := bif Nat.blt n 235 then 1 else 1
def am_dep_2_7_3 (n : Nat) : Nat := bif Nat.blt n 237 then 0 else 0
def am_dep_2_7_4 (n : Nat) : Nat := bif Nat.blt n 239 then 0 else 1
def am_dep_2_7 (n : Nat) : Nat := bif Nat.blt n 234 then bif Nat.blt n 232 then am_dep_2_7_0 n else am_dep_2_7_1 n else bif Nat.blt n 236 then am_dep_2_7_2 n else bif Nat.blt n 238 then am_dep_2_7_3 n else am_dep_2_7_4 n
def am_dep_2 (n : Nat) : Nat := bif Nat.blt n 200 then bif Nat.blt n 180 then bif Nat.blt n 170 then am_dep_2_0 n else am_dep_2_1 n else bif Nat.blt n 190 then am_dep_2_2 n else am_dep_2_3 n else bif Nat.blt n 220 then bif Nat.blt n 210 then am_dep_2_4 n else am_dep_2_5 n else bif Nat.blt n 230 then am_dep_2_6 n else am_dep_2_7 n
def am_dep_3_0_0 (n : Nat) : Nat := bif Nat.blt n 241 then 2 else 1
def am_dep_3_0_1 (n : Nat) : Nat := bif Nat.blt n 243 then 0 else 0
def am_dep_3_0_2 (n : Nat) : Nat := bif Nat.blt n 245 then 2 else 5
def am_dep_3_0_3 (n : Nat) : Nat := bif Nat.blt n 247 then 4 else 3
def am_dep_3_0_4 (n : Nat) : Nat := bif Nat.blt n 249 then 0 else 2
def am_dep_3_0 (n : Nat) : Nat := bif Nat.blt n 244 then bif Nat.blt n 242 then am_dep_3_0_0 n else am_dep_3_0_1 n else bif Nat.blt n 246 then am_dep_3_0_2 n else bif Nat.blt n 248 then am_dep_3_0_3 n else am_dep_3_0_4 n
def am_dep_3_1_0 (n : Nat) : Nat := bif Nat.blt n 251 then 1 else 0
def am_dep_3_1_1 (n : Nat) : Nat := bif Nat.blt n 253 then 0 else 2
def am_dep_3_1_2 (n : Nat) : Nat := bif Nat.blt n 255 then 1 else 1
def am_dep_3_1_3 (n : Nat) : Nat := bif Nat.blt n 257 then 2 else 1
def am_dep_3_1_4 (n : Nat) : Nat := bif Nat.blt n 259 then 1 else 1
def am_dep_3_1 (n : Nat) : Nat := bif Nat.blt n 254 then bif Nat.blt n 252 then am_dep_3_1_0 n else am_dep_3_1_1 n else bif Nat.blt n 256 then am_dep_3_1_2 n else bif Nat.blt n 258 then am_dep_3_1_3 n else am_dep_3_1_4 n
def am_dep_3_2_0 (n : Nat) : Nat := bif Nat.blt n 261 then 0 else 1
def am_dep_3_2_1 (n : Nat) : Nat := bif Nat.blt n 263 then 0 else 3
def am_dep_3_2_2 (n : Nat) : Nat := bif Nat.blt n 265 then 2 else 1
def am_dep_3_2_3 (n : Nat) : Nat := bif Nat.blt n 267 then 2 else 3
def am_dep_3_2_4 (n : Nat) : Nat := bif Nat.blt n 269 then 2 else 1
def am_dep_3_2 (n : Nat) : Nat := bif Nat.blt n 264 then bif Nat.blt n 262 then am_dep_3_2_0 n else am_dep_3_2_1 n else bif Nat.blt n 266 then am_dep_3_2_2 n else bif Nat.blt n 268 then am_dep_3_2_3 n else am_dep_3_2_4 n
def am_dep_3_3_0 (n : Nat) : Nat := bif Nat.blt n 271 then 2 else 1
def am_dep_3_3_1 (n : Nat) : Nat := bif Nat.blt n 273 then 4 else 2
def am_dep_3_3_2 (n : Nat) : Nat := bif Nat.blt n 275 then 1 else 0
def am_dep_3_3_3 (n : Nat) : Nat := bif Nat.blt n 277 then 0 else 0
def am_dep_3_3_4 (n : Nat) : Nat := bif Nat.blt n 279 then 1 else 0
def am_dep_3_3 (n : Nat) : Nat := bif Nat.blt n 274 then bif Nat.blt n 272 then am_dep_3_3_0 n else am_dep_3_3_1 n else bif Nat.blt n 276 then am_dep_3_3_2 n else bif Nat.blt n 278 then am_dep_3_3_3 n else am_dep_3_3_4 n
def am_dep_3_4_0 (n : Nat) : Nat := bif Nat.blt n 281 then 0 else 0
def am_dep_3_4_1 (n : Nat) : Nat := bif Nat.blt n 283 then 3 else 2
def am_dep_3_4_2 (n : Nat) : Nat := bif Nat.blt n 285 then 2 else 5
def am_dep_3_4_3 (n : Nat) : Nat := bif Nat.blt n 287 then 4 else 3
def am_dep_3_4_4 (n : Nat) : Nat := bif Nat.blt n 289 then 1 else 2
def am_dep_3_4 (n : Nat) : Nat := bif Nat.blt n 284 then bif Nat.blt n 282 then am_dep_3_4_0 n else am_dep_3_4_1 n else bif Nat.blt n 286 then am_dep_3_4_2 n else bif Nat.blt n 288 then am_dep_3_4_3 n else am_dep_3_4_4 n
def am_dep_3_5_0 (n : Nat) : Nat := bif Nat.blt n 291 then 1 else 0
def am_dep_3_5_1 (n : Nat) : Nat := bif Nat.blt n 293 then 3 else 1
def am_dep_3_5_2 (n : Nat) : Nat := bif Nat.blt n 295 then 1 else 1
def am_dep_3_5_3 (n : Nat) : Nat := bif Nat.blt n 297 then 0 else 6
def am_dep_3_5_4 (n : Nat) : Nat := bif Nat.blt n 299 then 2 else 1
def am_dep_3_5 (n : Nat) : Nat := bif Nat.blt n 294 then bif Nat.blt n 292 then am_dep_3_5_0 n else am_dep_3_5_1 n else bif Nat.blt n 296 then am_dep_3_5_2 n else bif Nat.blt n 298 then am_dep_3_5_3 n else am_dep_3_5_4 n
def am_dep_3_6_0 (n : Nat) : Nat := bif Nat.blt n 301 then 3 else 5
def am_dep_3_6_1 (n : Nat) : Nat := bif Nat.blt n 303 then 4 else 3
def am_dep_3_6_2 (n : Nat) : Nat := bif Nat.blt n 305 then 1 else 2
def am_dep_3_6_3 (n : Nat) : Nat := bif Nat.blt n 307 then 1 else 0
def am_dep_3_6_4 (n : Nat) : Nat := bif Nat.blt n 309 then 0 else 1
def am_dep_3_6 (n : Nat) : Nat := bif Nat.blt n 304 then bif Nat.blt n 302 then am_dep_3_6_0 n else am_dep_3_6_1 n else bif Nat.blt n 306 then am_dep_3_6_2 n else bif Nat.blt n 308 then am_dep_3_6_3 n else am_dep_3_6_4 n
def am_dep_3_7_0 (n : Nat) : Nat := bif Nat.blt n 311 then 5 else 4
def am_dep_3_7_1 (n : Nat) : Nat := bif Nat.blt n 313 then 0 else 3
def am_dep_3_7_2 (n : Nat) : Nat := bif Nat.blt n 315 then 1 else 3
def am_dep_3_7_3 (n : Nat) : Nat := bif Nat.blt n 317 then 5 else 2
def am_dep_3_7_4 (n : Nat) : Nat := bif Nat.blt n 319 then 0 else 1
def am_dep_3_7 (n : Nat) : Nat := bif Nat.blt n 314 then bif Nat.blt n 312 then am_dep_3_7_0 n else am_dep_3_7_1 n else bif Nat.blt n 316 then am_dep_3_7_2 n else bif Nat.blt n 318 then am_dep_3_7_3 n else am_dep_3_7_4 n
def am_dep_3 (n : Nat) : Nat := bif Nat.blt n 280 then bif Nat.blt n 260 then bif Nat.blt n 250 then am_dep_3_0 n else am_dep_3_1 n else bif Nat.blt n 270 then am_dep_3_2 n else am_dep_3_3 n else bif Nat.blt n 300 then bif Nat.blt n 290 then am_dep_3_4 n else am_dep_3_5 n else bif Nat.blt n 310 then am_dep_3_6 n else am_dep_3_7 n
def am_dep_4_0_0 (n : Nat) : Nat := bif Nat.blt n 321 then 2 else 3
def am_dep_4_0_1 (n : Nat) : Nat := bif Nat.blt n 323 then 1 else 0
def am_dep_4_0_2 (n : Nat) : Nat := bif Nat.blt n 325 then 0 else 0
def am_dep_4_0_3 (n : Nat) : Nat := bif Nat.blt n 327 then 2 else 0
def am_dep_4_0_4 (n : Nat) : Nat := bif Nat.blt n 329 then 1 else 1
def am_dep_4_0 (n : Nat) : Nat := bif Nat.blt n 324 then bif Nat.blt n 322 then am_dep_4_0_0 n else am_dep_4_0_1 n else bif Nat.blt n 326 then am_dep_4_0_2 n else bif Nat.blt n 328 then am_dep_4_0_3 n else am_dep_4_0_4 n
def am_dep_4_1_0 (n : Nat) : Nat := bif Nat.blt n 331 then 3 else 2
def am_dep_4_1_1 (n : Nat) : Nat := bif Nat.blt n 333 then 3 else 2
def am_dep_4_1_2 (n : Nat) : Nat := bif Nat.blt n 335 then 0 else 0
def am_dep_4_1_3 (n : Nat) : Nat := bif Nat.blt n 337 then 1 else 1
def am_dep_4_1_4 (n : Nat) : Nat := bif Nat.blt n 339 then 0 else 5
def am_dep_4_1 (n : Nat) : Nat := bif Nat.blt n 334 then bif Nat.blt n 332 then am_dep_4_1_0 n else am_dep_4_1_1 n else bif Nat.blt n 336 then am_dep_4_1_2 n else bif Nat.blt n 338 then am_dep_4_1_3 n else am_dep_4_1_4 n
def am_dep_4_2_0 (n : Nat) : Nat := bif Nat.blt n 341 then 1 else 4
def am_dep_4_2_1 (n : Nat) : Nat := bif Nat.blt n 343 then 1 else 0
def am_dep_4_2_2 (n : Nat) : Nat := bif Nat.blt n 345 then 3 else 4
def am_dep_4_2_3 (n : Nat) : Nat := bif Nat.blt n 347 then 1 else 2
def am_dep_4_2_4 (n : Nat) : Nat := bif Nat.blt n 349 then 2 else 0
def am_dep_4_2 (n : Nat) : Nat := bif Nat.blt n 344 then bif Nat.blt n 342 then am_dep_4_2_0 n else am_dep_4_2_1 n else bif Nat.blt n 346 then am_dep_4_2_2 n else bif Nat.blt n 348 then am_dep_4_2_3 n else am_dep_4_2_4 n
def am_dep_4_3_0 (n : Nat) : Nat := bif Nat.blt n 351 then 2 else 0
def am_dep_4_3_1 (n : Nat) : Nat := bif Nat.blt n 353 then 1 else 1
def am_dep_4_3_2 (n : Nat) : Nat := bif Nat.blt n 355 then 3 else 2
def am_dep_4_3_3 (n : Nat) : Nat := bif Nat.blt n 357 then 0 else 1
def am_dep_4_3_4 (n : Nat) : Nat := bif Nat.blt n 359 then 2 else 0
def am_dep_4_3 (n : Nat) : Nat := bif Nat.blt n 354 then bif Nat.blt n 352 then am_dep_4_3_0 n else am_dep_4_3_1 n else bif Nat.blt n 356 then am_dep_4_3_2 n else bif Nat.blt n 358 then am_dep_4_3_3 n else am_dep_4_3_4 n
def am_dep_4_4_0 (n : Nat) : Nat := bif Nat.blt n 361 then 4 else 3
def am_dep_4_4_1 (n : Nat) : Nat := bif Nat.blt n 363 then 2 else 2
def am_dep_4_4_2 (n : Nat) : Nat := bif Nat.blt n 365 then 4 else 3
def am_dep_4_4_3 (n : Nat) : Nat := bif Nat.blt n 367 then 2 else 2
def am_dep_4_4_4 (n : Nat) : Nat := bif Nat.blt n 369 then 4 else 3
def am_dep_4_4 (n : Nat) : Nat := bif Nat.blt n 364 then bif Nat.blt n 362 then am_dep_4_4_0 n else am_dep_4_4_1 n else bif Nat.blt n 366 then am_dep_4_4_2 n else bif Nat.blt n 368 then am_dep_4_4_3 n else am_dep_4_4_4 n
def am_dep_4_5_0 (n : Nat) : Nat := bif Nat.blt n 371 then 2 else 1
def am_dep_4_5_1 (n : Nat) : Nat := bif Nat.blt n 373 then 3 else 1
def am_dep_4_5_2 (n : Nat) : Nat := bif Nat.blt n 375 then 0 else 5
def am_dep_4_5_3 (n : Nat) : Nat := bif Nat.blt n 377 then 4 else 4
def am_dep_4_5_4 (n : Nat) : Nat := bif Nat.blt n 379 then 8 else 7
def am_dep_4_5 (n : Nat) : Nat := bif Nat.blt n 374 then bif Nat.blt n 372 then am_dep_4_5_0 n else am_dep_4_5_1 n else bif Nat.blt n 376 then am_dep_4_5_2 n else bif Nat.blt n 378 then am_dep_4_5_3 n else am_dep_4_5_4 n
def am_dep_4_6_0 (n : Nat) : Nat := bif Nat.blt n 381 then 6 else 4
def am_dep_4_6_1 (n : Nat) : Nat := bif Nat.blt n 383 then 3 else 3
def am_dep_4_6_2 (n : Nat) : Nat := bif Nat.blt n 385 then 3 else 2
def am_dep_4_6_3 (n : Nat) : Nat := bif Nat.blt n 387 then 1 else 2
def am_dep_4_6_4 (n : Nat) : Nat := bif Nat.blt n 389 then 4 else 3
def am_dep_4_6 (n : Nat) : Nat := bif Nat.blt n 384 then bif Nat.blt n 382 then am_dep_4_6_0 n else am_dep_4_6_1 n else bif Nat.blt n 386 then am_dep_4_6_2 n else bif Nat.blt n 388 then am_dep_4_6_3 n else am_dep_4_6_4 n
def am_dep_4_7_0 (n : Nat) : Nat := bif Nat.blt n 391 then 2 else 1
def am_dep_4_7_1 (n : Nat) : Nat := bif Nat.blt n 393 then 4 else 3
def am_dep_4_7_2 (n : Nat) : Nat := bif Nat.blt n 395 then 2 else 4
def am_dep_4_7_3 (n : Nat) : Nat := bif Nat.blt n 397 then 3 else 3
def am_dep_4_7_4 (n : Nat) : Nat := bif Nat.blt n 399 then 5 else 4
def am_dep_4_7 (n : Nat) : Nat := bif Nat.blt n 394 then bif Nat.blt n 392 then am_dep_4_7_0 n else am_dep_4_7_1 n else bif Nat.blt n 396 then am_dep_4_7_2 n else bif Nat.blt n 398 then am_dep_4_7_3 n else am_dep_4_7_4 n
def am_dep_4 (n : Nat) : Nat := bif Nat.blt n 360 then bif Nat.blt n 340 then bif Nat.blt n 330 then am_dep_4_0 n else am_dep_4_1 n else bif Nat.blt n 350 then am_dep_4_2 n else am_dep_4_3 n else bif Nat.blt n 380 then bif Nat.blt n 370 then am_dep_4_4 n else am_dep_4_5 n else bif Nat.blt n 390 then am_dep_4_6 n else am_dep_4_7 n
def am_dep_5_0_0 (n : Nat) : Nat := bif Nat.blt n 401 then 3 else 2
def am_dep_5_0_1 (n : Nat) : Nat := bif Nat.blt n 403 then 7 else 6
def am_dep_5_0_2 (n : Nat) : Nat := bif Nat.blt n 405 then 6 else 4
def am_dep_5_0_3 (n : Nat) : Nat := bif Nat.blt n 407 then 3 else 2
def am_dep_5_0_4 (n : Nat) : Nat := bif Nat.blt n 409 then 1 else 1
def am_dep_5_0 (n : Nat) : Nat := bif Nat.blt n 404 then bif Nat.blt n 402 then am_dep_5_0_0 n else am_dep_5_0_1 n else bif Nat.blt n 406 then am_dep_5_0_2 n else bif Nat.blt n 408 then am_dep_5_0_3 n else am_dep_5_0_4 n
def am_dep_5_1_0 (n : Nat) : Nat := bif Nat.blt n 411 then 3 else 2
def am_dep_5_1_1 (n : Nat) : Nat := bif Nat.blt n 413 then 1 else 1
def am_dep_5_1_2 (n : Nat) : Nat := bif Nat.blt n 415 then 19 else 18
def am_dep_5_1_3 (n : Nat) : Nat := bif Nat.blt n 417 then 17 else 0
def am_dep_5_1_4 (n : Nat) : Nat := bif Nat.blt n 419 then 14 else 0
def am_dep_5_1 (n : Nat) : Nat := bif Nat.blt n 414 then bif Nat.blt n 412 then am_dep_5_1_0 n else am_dep_5_1_1 n else bif Nat.blt n 416 then am_dep_5_1_2 n else bif Nat.blt n 418 then am_dep_5_1_3 n else am_dep_5_1_4 n
def am_dep_5_2_0 (n : Nat) : Nat := bif Nat.blt n 421 then 13 else 12
def am_dep_5_2_1 (n : Nat) : Nat := bif Nat.blt n 423 then 4 else 0
def am_dep_5_2_2 (n : Nat) : Nat := bif Nat.blt n 425 then 0 else 0
def am_dep_5_2_3 (n : Nat) : Nat := bif Nat.blt n 427 then 1 else 2
def am_dep_5_2_4 (n : Nat) : Nat := bif Nat.blt n 429 then 11 else 3
def am_dep_5_2 (n : Nat) : Nat := bif Nat.blt n 424 then bif Nat.blt n 422 then am_dep_5_2_0 n else am_dep_5_2_1 n else bif Nat.blt n 426 then am_dep_5_2_2 n else bif Nat.blt n 428 then am_dep_5_2_3 n else am_dep_5_2_4 n
def am_dep_5_3_0 (n : Nat) : Nat := bif Nat.blt n 431 then 10 else 9
def am_dep_5_3_1 (n : Nat) : Nat := bif Nat.blt n 433 then 8 else 7
def am_dep_5_3_2 (n : Nat) : Nat := bif Nat.blt n 435 then 6 else 5
def am_dep_5_3_3 (n : Nat) : Nat := bif Nat.blt n 437 then 4 else 3
def am_dep_5_3_4 (n : Nat) : Nat := bif Nat.blt n 439 then 2 else 4
def am_dep_5_3 (n : Nat) : Nat := bif Nat.blt n 434 then bif Nat.blt n 432 then am_dep_5_3_0 n else am_dep_5_3_1 n else bif Nat.blt n 436 then am_dep_5_3_2 n else bif Nat.blt n 438 then am_dep_5_3_3 n else am_dep_5_3_4 n
def am_dep_5_4_0 (n : Nat) : Nat := bif Nat.blt n 441 then 0 else 0
def am_dep_5_4_1 (n : Nat) : Nat := bif Nat.blt n 443 then 16 else 14
def am_dep_5_4_2 (n : Nat) : Nat := bif Nat.blt n 445 then 0 else 0
def am_dep_5_4_3 (n : Nat) : Nat := bif Nat.blt n 447 then 15 else 0
def am_dep_5_4_4 (n : Nat) : Nat := bif Nat.blt n 449 then 0 else 0
def am_dep_5_4 (n : Nat) : Nat := bif Nat.blt n 444 then bif Nat.blt n 442 then am_dep_5_4_0 n else am_dep_5_4_1 n else bif Nat.blt n 446 then am_dep_5_4_2 n else bif Nat.blt n 448 then am_dep_5_4_3 n else am_dep_5_4_4 n
def am_dep_5_5_0 (n : Nat) : Nat := bif Nat.blt n 451 then 7 else 6
def am_dep_5_5_1 (n : Nat) : Nat := bif Nat.blt n 453 then 0 else 5
def am_dep_5_5_2 (n : Nat) : Nat := bif Nat.blt n 455 then 4 else 2
def am_dep_5_5_3 (n : Nat) : Nat := bif Nat.blt n 457 then 0 else 0
def am_dep_5_5_4 (n : Nat) : Nat := bif Nat.blt n 459 then 1 else 0
def am_dep_5_5 (n : Nat) : Nat := bif Nat.blt n 454 then bif Nat.blt n 452 then am_dep_5_5_0 n else am_dep_5_5_1 n else bif Nat.blt n 456 then am_dep_5_5_2 n else bif Nat.blt n 458 then am_dep_5_5_3 n else am_dep_5_5_4 n
def am_dep_5_6_0 (n : Nat) : Nat := bif Nat.blt n 461 then 6 else 0
def am_dep_5_6_1 (n : Nat) : Nat := bif Nat.blt n 463 then 6 else 6
def am_dep_5_6_2 (n : Nat) : Nat := bif Nat.blt n 465 then 5 else 6
def am_dep_5_6_3 (n : Nat) : Nat := bif Nat.blt n 467 then 6 else 5
def am_dep_5_6_4 (n : Nat) : Nat := bif Nat.blt n 469 then 3 else 4
def am_dep_5_6 (n : Nat) : Nat := bif Nat.blt n 464 then bif Nat.blt n 462 then am_dep_5_6_0 n else am_dep_5_6_1 n else bif Nat.blt n 466 then am_dep_5_6_2 n else bif Nat.blt n 468 then am_dep_5_6_3 n else am_dep_5_6_4 n
def am_dep_5_7_0 (n : Nat) : Nat := bif Nat.blt n 471 then 3 else 2
def am_dep_5_7_1 (n : Nat) : Nat := bif Nat.blt n 473 then 2 else 4
def am_dep_5_7_2 (n : Nat) : Nat := bif Nat.blt n 475 then 3 else 3
def am_dep_5_7_3 (n : Nat) : Nat := bif Nat.blt n 477 then 3 else 2
def am_dep_5_7_4 (n : Nat) : Nat := bif Nat.blt n 479 then 1 else 1
def am_dep_5_7 (n : Nat) : Nat := bif Nat.blt n 474 then bif Nat.blt n 472 then am_dep_5_7_0 n else am_dep_5_7_1 n else bif Nat.blt n 476 then am_dep_5_7_2 n else bif Nat.blt n 478 then am_dep_5_7_3 n else am_dep_5_7_4 n
def am_dep_5 (n : Nat) : Nat := bif Nat.blt n 440 then bif Nat.blt n 420 then bif Nat.blt n 410 then am_dep_5_0 n else am_dep_5_1 n else bif Nat.blt n 430 then am_dep_5_2 n else am_dep_5_3 n else bif Nat.blt n 460 then bif Nat.blt n 450 then am_dep_5_4 n else am_dep_5_5 n else bif Nat.blt n 470 then am_dep_5_6 n else am_dep_5_7 n
def am_dep_6_0_0 (n : Nat) : Nat := bif Nat.blt n 481 then 7 else 6
def am_dep_6_0_1 (n : Nat) : Nat := bif Nat.blt n 483 then 4 else 5
def am_dep_6_0_2 (n : Nat) : Nat := bif Nat.blt n 485 then 4 else 4
def am_dep_6_0_3 (n : Nat) : Nat := bif Nat.blt n 487 then 5 else 4
def am_dep_6_0_4 (n : Nat) : Nat := bif Nat.blt n 489 then 4 else 4
def am_dep_6_0 (n : Nat) : Nat := bif Nat.blt n 484 then bif Nat.blt n 482 then am_dep_6_0_0 n else am_dep_6_0_1 n else bif Nat.blt n 486 then am_dep_6_0_2 n else bif Nat.blt n 488 then am_dep_6_0_3 n else am_dep_6_0_4 n
def am_dep_6_1_0 (n : Nat) : Nat := bif Nat.blt n 491 then 3 else 2
def am_dep_6_1_1 (n : Nat) : Nat := bif Nat.blt n 493 then 2 else 4
def am_dep_6_1_2 (n : Nat) : Nat := bif Nat.blt n 495 then 3 else 3
def am_dep_6_1_3 (n : Nat) : Nat := bif Nat.blt n 497 then 4 else 3
def am_dep_6_1_4 (n : Nat) : Nat := bif Nat.blt n 499 then 2 else 2
def am_dep_6_1 (n : Nat) : Nat := bif Nat.blt n 494 then bif Nat.blt n 492 then am_dep_6_1_0 n else am_dep_6_1_1 n else bif Nat.blt n 496 then am_dep_6_1_2 n else bif Nat.blt n 498 then am_dep_6_1_3 n else am_dep_6_1_4 n
def am_dep_6_2_0 (n : Nat) : Nat := bif Nat.blt n 501 then 4 else 3
def am_dep_6_2_1 (n : Nat) : Nat := bif Nat.blt n 503 then 2 else 3
def am_dep_6_2_2 (n : Nat) : Nat := bif Nat.blt n 505 then 2 else 1
def am_dep_6_2_3 (n : Nat) : Nat := bif Nat.blt n 507 then 1 else 3
def am_dep_6_2_4 (n : Nat) : Nat := bif Nat.blt n 509 then 2 else 2
def am_dep_6_2 (n : Nat) : Nat := bif Nat.blt n 504 then bif Nat.blt n 502 then am_dep_6_2_0 n else am_dep_6_2_1 n else bif Nat.blt n 506 then am_dep_6_2_2 n else bif Nat.blt n 508 then am_dep_6_2_3 n else am_dep_6_2_4 n
def am_dep_6_3_0 (n : Nat) : Nat := bif Nat.blt n 511 then 4 else 3
def am_dep_6_3_1 (n : Nat) : Nat := bif Nat.blt n 513 then 2 else 2
def am_dep_6_3_2 (n : Nat) : Nat := bif Nat.blt n 515 then 4 else 3
def am_dep_6_3_3 (n : Nat) : Nat := bif Nat.blt n 517 then 2 else 9
def am_dep_6_3_4 (n : Nat) : Nat := bif Nat.blt n 519 then 8 else 6
def am_dep_6_3 (n : Nat) : Nat := bif Nat.blt n 514 then bif Nat.blt n 512 then am_dep_6_3_0 n else am_dep_6_3_1 n else bif Nat.blt n 516 then am_dep_6_3_2 n else bif Nat.blt n 518 then am_dep_6_3_3 n else am_dep_6_3_4 n
def am_dep_6_4_0 (n : Nat) : Nat := bif Nat.blt n 521 then 4 else 3
def am_dep_6_4_1 (n : Nat) : Nat := bif Nat.blt n 523 then 3 else 4
def am_dep_6_4_2 (n : Nat) : Nat := bif Nat.blt n 525 then 3 else 3
def am_dep_6_4_3 (n : Nat) : Nat := bif Nat.blt n 527 then 5 else 4
def am_dep_6_4_4 (n : Nat) : Nat := bif Nat.blt n 529 then 3 else 4
def am_dep_6_4 (n : Nat) : Nat := bif Nat.blt n 524 then bif Nat.blt n 522 then am_dep_6_4_0 n else am_dep_6_4_1 n else bif Nat.blt n 526 then am_dep_6_4_2 n else bif Nat.blt n 528 then am_dep_6_4_3 n else am_dep_6_4_4 n
def am_dep_6_5_0 (n : Nat) : Nat := bif Nat.blt n 531 then 3 else 3
def am_dep_6_5_1 (n : Nat) : Nat := bif Nat.blt n 533 then 4 else 3
def am_dep_6_5_2 (n : Nat) : Nat := bif Nat.blt n 535 then 2 else 3
def am_dep_6_5_3 (n : Nat) : Nat := bif Nat.blt n 537 then 2 else 1
def am_dep_6_5_4 (n : Nat) : Nat := bif Nat.blt n 539 then 1 else 6
def am_dep_6_5 (n : Nat) : Nat := bif Nat.blt n 534 then bif Nat.blt n 532 then am_dep_6_5_0 n else am_dep_6_5_1 n else bif Nat.blt n 536 then am_dep_6_5_2 n else bif Nat.blt n 538 then am_dep_6_5_3 n else am_dep_6_5_4 n
def am_dep_6_6_0 (n : Nat) : Nat := bif Nat.blt n 541 then 5 else 4
def am_dep_6_6_1 (n : Nat) : Nat := bif Nat.blt n 543 then 4 else 3
def am_dep_6_6_2 (n : Nat) : Nat := bif Nat.blt n 545 then 2 else 5
def am_dep_6_6_3 (n : Nat) : Nat := bif Nat.blt n 547 then 4 else 3
def am_dep_6_6_4 (n : Nat) : Nat := bif Nat.blt n 549 then 3 else 2
def am_dep_6_6 (n : Nat) : Nat := bif Nat.blt n 544 then bif Nat.blt n 542 then am_dep_6_6_0 n else am_dep_6_6_1 n else bif Nat.blt n 546 then am_dep_6_6_2 n else bif Nat.blt n 548 then am_dep_6_6_3 n else am_dep_6_6_4 n
def am_dep_6_7_0 (n : Nat) : Nat := bif Nat.blt n 551 then 1 else 1
def am_dep_6_7_1 (n : Nat) : Nat := bif Nat.blt n 553 then 16 else 15
def am_dep_6_7_2 (n : Nat) : Nat := bif Nat.blt n 555 then 14 else 7
def am_dep_6_7_3 (n : Nat) : Nat := bif Nat.blt n 557 then 4 else 6
def am_dep_6_7_4 (n : Nat) : Nat := bif Nat.blt n 559 then 4 else 3
def am_dep_6_7 (n : Nat) : Nat := bif Nat.blt n 554 then bif Nat.blt n 552 then am_dep_6_7_0 n else am_dep_6_7_1 n else bif Nat.blt n 556 then am_dep_6_7_2 n else bif Nat.blt n 558 then am_dep_6_7_3 n else am_dep_6_7_4 n
def am_dep_6 (n : Nat) : Nat := bif Nat.blt n 520 then bif Nat.blt n 500 then bif Nat.blt n 490 then am_dep_6_0 n else am_dep_6_1 n else bif Nat.blt n 510 then am_dep_6_2 n else am_dep_6_3 n else bif Nat.blt n 540 then bif Nat.blt n 530 then am_dep_6_4 n else am_dep_6_5 n else bif Nat.blt n 550 then am_dep_6_6 n else am_dep_6_7 n
def am_dep_7_0_0 (n : Nat) : Nat := bif Nat.blt n 561 then 2 else 0
def am_dep_7_0_1 (n : Nat) : Nat := bif Nat.blt n 563 then 2 else 4
def am_dep_7_0_2 (n : Nat) : Nat := bif Nat.blt n 565 then 3 else 2
def am_dep_7_0_3 (n : Nat) : Nat := bif Nat.blt n 567 then 2 else 4
def am_dep_7_0_4 (n : Nat) : Nat := bif Nat.blt n 569 then 3 else 3
def am_dep_7_0 (n : Nat) : Nat := bif Nat.blt n 564 then bif Nat.blt n 562 then am_dep_7_0_0 n else am_dep_7_0_1 n else bif Nat.blt n 566 then am_dep_7_0_2 n else bif Nat.blt n 568 then am_dep_7_0_3 n else am_dep_7_0_4 n
def am_dep_7_1_0 (n : Nat) : Nat := bif Nat.blt n 571 then 6 else 5
def am_dep_7_1_1 (n : Nat) : Nat := bif Nat.blt n 573 then 6 else 4
def am_dep_7_1_2 (n : Nat) : Nat := bif Nat.blt n 575 then 3 else 3
def am_dep_7_1_3 (n : Nat) : Nat := bif Nat.blt n 577 then 4 else 3
def am_dep_7_1_4 (n : Nat) : Nat := bif Nat.blt n 579 then 2 else 5
def am_dep_7_1 (n : Nat) : Nat := bif Nat.blt n 574 then bif Nat.blt n 572 then am_dep_7_1_0 n else am_dep_7_1_1 n else bif Nat.blt n 576 then am_dep_7_1_2 n else bif Nat.blt n 578 then am_dep_7_1_3 n else am_dep_7_1_4 n
def am_dep_7_2_0 (n : Nat) : Nat := bif Nat.blt n 581 then 4 else 3
def am_dep_7_2_1 (n : Nat) : Nat := bif Nat.blt n 583 then 0 else 2
def am_dep_7_2_2 (n : Nat) : Nat := bif Nat.blt n 585 then 3 else 2
def am_dep_7_2_3 (n : Nat) : Nat := bif Nat.blt n 587 then 1 else 1
def am_dep_7_2_4 (n : Nat) : Nat := bif Nat.blt n 589 then 5 else 4
def am_dep_7_2 (n : Nat) : Nat := bif Nat.blt n 584 then bif Nat.blt n 582 then am_dep_7_2_0 n else am_dep_7_2_1 n else bif Nat.blt n 586 then am_dep_7_2_2 n else bif Nat.blt n 588 then am_dep_7_2_3 n else am_dep_7_2_4 n
def am_dep_7_3_0 (n : Nat) : Nat := bif Nat.blt n 591 then 3 else 4
def am_dep_7_3_1 (n : Nat) : Nat := bif Nat.blt n 593 then 3 else 2
def am_dep_7_3_2 (n : Nat) : Nat := bif Nat.blt n 595 then 2 else 5
def am_dep_7_3_3 (n : Nat) : Nat := bif Nat.blt n 597 then 4 else 3
def am_dep_7_3_4 (n : Nat) : Nat := bif Nat.blt n 599 then 2 else 5
def am_dep_7_3 (n : Nat) : Nat := bif Nat.blt n 594 then bif Nat.blt n 592 then am_dep_7_3_0 n else am_dep_7_3_1 n else bif Nat.blt n 596 then am_dep_7_3_2 n else bif Nat.blt n 598 then am_dep_7_3_3 n else am_dep_7_3_4 n
def am_dep_7_4_0 (n : Nat) : Nat := bif Nat.blt n 601 then 4 else 4
def am_dep_7_4_1 (n : Nat) : Nat := bif Nat.blt n 603 then 4 else 3
def am_dep_7_4_2 (n : Nat) : Nat := bif Nat.blt n 605 then 3 else 5
def am_dep_7_4_3 (n : Nat) : Nat := bif Nat.blt n 607 then 4 else 4
def am_dep_7_4_4 (n : Nat) : Nat := bif Nat.blt n 609 then 4 else 3
def am_dep_7_4 (n : Nat) : Nat := bif Nat.blt n 604 then bif Nat.blt n 602 then am_dep_7_4_0 n else am_dep_7_4_1 n else bif Nat.blt n 606 then am_dep_7_4_2 n else bif Nat.blt n 608 then am_dep_7_4_3 n else am_dep_7_4_4 n
def am_dep_7_5_0 (n : Nat) : Nat := bif Nat.blt n 611 then 2 else 6
def am_dep_7_5_1 (n : Nat) : Nat := bif Nat.blt n 613 then 5 else 4
def am_dep_7_5_2 (n : Nat) : Nat := bif Nat.blt n 615 then 4 else 4
def am_dep_7_5_3 (n : Nat) : Nat := bif Nat.blt n 617 then 3 else 3
def am_dep_7_5_4 (n : Nat) : Nat := bif Nat.blt n 619 then 4 else 3
def am_dep_7_5 (n : Nat) : Nat := bif Nat.blt n 614 then bif Nat.blt n 612 then am_dep_7_5_0 n else am_dep_7_5_1 n else bif Nat.blt n 616 then am_dep_7_5_2 n else bif Nat.blt n 618 then am_dep_7_5_3 n else am_dep_7_5_4 n
def am_dep_7_6_0 (n : Nat) : Nat := bif Nat.blt n 621 then 2 else 2
def am_dep_7_6_1 (n : Nat) : Nat := bif Nat.blt n 623 then 4 else 3
def am_dep_7_6_2 (n : Nat) : Nat := bif Nat.blt n 625 then 2 else 2
def am_dep_7_6_3 (n : Nat) : Nat := bif Nat.blt n 627 then 8 else 7
def am_dep_7_6_4 (n : Nat) : Nat := bif Nat.blt n 629 then 5 else 8
def am_dep_7_6 (n : Nat) : Nat := bif Nat.blt n 624 then bif Nat.blt n 622 then am_dep_7_6_0 n else am_dep_7_6_1 n else bif Nat.blt n 626 then am_dep_7_6_2 n else bif Nat.blt n 628 then am_dep_7_6_3 n else am_dep_7_6_4 n
def am_dep_7_7 (n : Nat) : Nat := bif Nat.blt n 634 then bif Nat.blt n 632 then bif Nat.blt n 631 then 7 else 6 else bif Nat.blt n 633 then 4 else 3 else bif Nat.blt n 636 then bif Nat.blt n 635 then 2 else 3 else bif Nat.blt n 637 then 2 else 2
def am_dep_7 (n : Nat) : Nat := bif Nat.blt n 600 then bif Nat.blt n 580 then bif Nat.blt n 570 then am_dep_7_0 n else am_dep_7_1 n else bif Nat.blt n 590 then am_dep_7_2 n else am_dep_7_3 n else bif Nat.blt n 620 then bif Nat.blt n 610 then am_dep_7_4 n else am_dep_7_5 n else bif Nat.blt n 630 then am_dep_7_6 n else am_dep_7_7 n
def am_dep (n : Nat) : Nat := bif Nat.blt n 320 then bif Nat.blt n 160 then bif Nat.blt n 80 then am_dep_0 n else am_dep_1 n else bif Nat.blt n 240 then am_dep_2 n else am_dep_3 n else bif Nat.blt n 480 then bif Nat.blt n 400 then am_dep_4 n else am_dep_5 n else bif Nat.blt n 560 then am_dep_6 n else am_dep_7 n
def am_xs : List (Nat × Nat × Nat × Nat) := [(1, 1, 3, 33), (1, 7, 9, 34), (1, 10, 12, 35), (1, 13, 15, 32), (3, 244, 246, 33), (3, 441, 443, 32), (4, 22, 24, 18), (5, 125, 127, 32), (6, 85, 87, 32), (8, 115, 117, 34)]
def am_xl (a b c d : Nat) : Bool := am_xs.any (fun q => Nat.beq q.1 a && (Nat.beq q.2.1 b && (Nat.beq q.2.2.1 c && Nat.beq q.2.2.2 d)))
noncomputable def ckP (m pc : Nat) : Bool := blkok am_of 638 (am_lb m) ((am_mt m).2.2.2 pc) && ckB am_T am_dep am_xl m pc ((am_mt m).2.2.2 pc)
noncomputable def ckM (m : Nat) : Bool := iok am_T m && (labin (am_lb m) 0 && (am_lb m).all (ckP m))
theorem bif_or {α : Type} {b : Bool} {x y z : α} (h : (bif b then x else y) = z) : x = z ∨ y = z := by cases b; exact Or.inr h; exact Or.inl h
noncomputable def ckPD (dc : Nat → Except DecodeError (Instr × Nat)) (m pc : Nat) : Bool := blkok am_of 638 (am_lb m) ((am_mt m).2.2.2 pc) && (match ckbD dc (mow (imt m)) (mlo (imt m)) (Nat.beq (mki (imt m)) 2) pc ((am_mt m).2.2.2 pc).1 with | some pc1 => cktD dc am_dep m (imt m) (mow (imt m)) am_xl pc1 ((am_mt m).2.2.2 pc).2.2.1 ((am_mt m).2.2.2 pc).2.2.2.1 ((am_mt m).2.2.2 pc).2.2.2.2.2.1 ((am_mt m).2.2.2 pc).2.2.2.2.2.2 ((am_mt m).2.2.2 pc).2.1 | none => false)
theorem ckPD_ok {dc : Nat → Except DecodeError (Instr × Nat)} {m : Nat} (hd : ∀ pc z, dc pc = .ok z → decode (mby (imt m)) pc = .ok z) {l : List Nat} (h : l.all (ckPD dc m) = true) : l.all (ckP m) = true := by
  rw [List.all_eq_true] at h ⊢
  intro pc hpc
  have h1 := h pc hpc
  unfold ckPD at h1
  unfold ckP
  rw [Bool.and_eq_true] at h1 ⊢
  refine ⟨h1.1, ?_⟩
  have h2 := h1.2
  split at h2
  · rename_i pc1 e
    unfold ckB
    show (match ckb (mow (imt m)) (mlo (imt m)) (Nat.beq (mki (imt m)) 2) (mby (imt m)) pc ((am_mt m).2.2.2 pc).1 with | some pc2 => _ | none => false) = true
    rw [ckb_of hd _ _ _ _ (Nat.le_refl _) e]
    exact cktD_mono (dc' := decode (mby (imt m))) hd h2
  · cases h2
theorem all_ap {f : Nat → Bool} {x y : List Nat} (h : x.all f = true) (k : y.all f = true) : (x ++ y).all f = true := by rw [List.all_append, h, k]; rfl
theorem ckM_of {m : Nat} {l : List Nat} (e : am_lb m = l) (h : (iok am_T m && labin (am_lb m) 0) = true) (k : l.all (ckP m) = true) : ckM m = true := by
  subst e
  rw [Bool.and_eq_true] at h
  unfold ckM
  rw [h.1, h.2, k]; rfl
theorem bif_mem {α : Type} {b : Bool} {x y : List α} {q : α} (h : q ∈ (bif b then x else y)) : q ∈ x ∨ q ∈ y := by cases b; exact Or.inr h; exact Or.inl h
theorem bif_leaf {α : Type} {n k : Nat} {x : List α} {q : α} (h : q ∈ (bif Nat.beq n k then x else [])) : n = k ∧ q ∈ x := by
  cases e : Nat.beq n k with
  | true => rw [e] at h; exact ⟨Nat.eq_of_beq_eq_true e, h⟩
  | false => rw [e] at h; cases h
theorem of_in {n : Nat} {q : Nat × Nat × Nat} (h : q ∈ am_of n) : cx_kt n q.1 = (q.2.2, q.2.1) ∧ 3 ≤ q.2.2 ∧ n < 64 := by
  unfold am_of am_of_0 am_of_1 am_of_2 am_of_3 am_of_4 am_of_5 am_of_6 at h
  repeat' (first | (replace h := bif_leaf h; obtain ⟨rfl, h⟩ := h; revert q; decide +kernel) | (replace h := bif_mem h; rcases h with h | h))
theorem of_ok : ofok am_of := fun c q h => of_in h
def dw0_0_0 (n : Nat) : Except DecodeError (Instr × Nat) := bif Nat.blt n 64 then dwl code 0 344 n else dwl code 64 88 n
def dw0_0_1 (n : Nat) : Except DecodeError (Instr × Nat) := bif Nat.blt n 192 then dwl code 128 88 n else dwl code 192 88 n
def dw0_0_2 (n : Nat) : Except DecodeError (Instr × Nat) := bif Nat.blt n 320 then dwl code 256 88 n else dwl code 320 88 n
def dw0_0_3 (n : Nat) : Except DecodeError (Instr × Nat) := bif Nat.blt n 448 then dwl code 384 88 n else dwl code 448 88 n
def dw0_0_4 (n : Nat) : Except DecodeError (Instr × Nat) := bif Nat.blt n 576 then dwl code 512 88 n else dwl code 576 88 n
def dw0_0 (n : Nat) : Except DecodeError (Instr × Nat) := bif Nat.blt n 256 then bif Nat.blt n 128 then dw0_0_0 n else dw0_0_1 n else bif Nat.blt n 384 then dw0_0_2 n else bif Nat.blt n 512 then dw0_0_3 n else dw0_0_4 n
def dw0_1_0 (n : Nat) : Except DecodeError (Instr × Nat) := bif Nat.blt n 704 then dwl code 640 88 n else dwl code 704 88 n
def dw0_1_1 (n : Nat) : Except DecodeError (Instr × Nat) := bif Nat.blt n 832 then dwl code 768 88 n else dwl code 832 88 n
def dw0_1_2 (n : Nat) : Except DecodeError (Instr × Nat) := bif Nat.blt n 960 then dwl code 896 88 n else dwl code 960 88 n
def dw0_1_3 (n : Nat) : Except DecodeError (Instr × Nat) := bif Nat.blt n 1088 then dwl code 1024 88 n else dwl code 1088 88 n
def dw0_1_4 (n : Nat) : Except DecodeError (Instr × Nat) := bif Nat.blt n 1216 then dwl code 1152 88 n else dwl code 1216 88 n
def dw0_1 (n : Nat) : Except DecodeError (Instr × Nat) := bif Nat.blt n 896 then bif Nat.blt n 768 then dw0_1_0 n else dw0_1_1 n else bif Nat.blt n 1024 then dw0_1_2 n else bif Nat.blt n 1152 then dw0_1_3 n else dw0_1_4 n
def dw0_2_0 (n : Nat) : Except DecodeError (Instr × Nat) := bif Nat.blt n 1344 then dwl code 1280 88 n else dwl code 1344 88 n
def dw0_2_1 (n : Nat) : Except DecodeError (Instr × Nat) := bif Nat.blt n 1472 then dwl code 1408 88 n else dwl code 1472 88 n
def dw0_2_2 (n : Nat) : Except DecodeError (Instr × Nat) := bif Nat.blt n 1600 then dwl code 1536 88 n else dwl code 1600 88 n
def dw0_2_3 (n : Nat) : Except DecodeError (Instr × Nat) := bif Nat.blt n 1728 then dwl code 1664 88 n else dwl code 1728 88 n
def dw0_2_4 (n : Nat) : Except DecodeError (Instr × Nat) := bif Nat.blt n 1856 then dwl code 1792 88 n else dwl code 1856 88 n
def dw0_2 (n : Nat) : Except DecodeError (Instr × Nat) := bif Nat.blt n 1536 then bif Nat.blt n 1408 then dw0_2_0 n else dw0_2_1 n else bif Nat.blt n 1664 then dw0_2_2 n else bif Nat.blt n 1792 then dw0_2_3 n else dw0_2_4 n
def dw0_3_0 (n : Nat) : Except DecodeError (Instr × Nat) := bif Nat.blt n 1984 then dwl code 1920 88 n else dwl code 1984 88 n
def dw0_3_1 (n : Nat) : Except DecodeError (Instr × Nat) := bif Nat.blt n 2112 then dwl code 2048 88 n else dwl code 2112 88 n
def dw0_3_2 (n : Nat) : Except DecodeError (Instr × Nat) := bif Nat.blt n 2240 then dwl code 2176 88 n else dwl code 2240 88 n
def dw0_3_3 (n : Nat) : Except DecodeError (Instr × Nat) := bif Nat.blt n 2368 then dwl code 2304 88 n else dwl code 2368 88 n
def dw0_3_4 (n : Nat) : Except DecodeError (Instr × Nat) := bif Nat.blt n 2496 then dwl code 2432 88 n else dwl code 2496 88 n
def dw0_3 (n : Nat) : Except DecodeError (Instr × Nat) := bif Nat.blt n 2176 then bif Nat.blt n 2048 then dw0_3_0 n else dw0_3_1 n else bif Nat.blt n 2304 then dw0_3_2 n else bif Nat.blt n 2432 then dw0_3_3 n else dw0_3_4 n
def dw0_4_0 (n : Nat) : Except DecodeError (Instr × Nat) := bif Nat.blt n 2624 then dwl code 2560 88 n else dwl code 2624 88 n
def dw0_4_1 (n : Nat) : Except DecodeError (Instr × Nat) := bif Nat.blt n 2752 then dwl code 2688 88 n else dwl code 2752 88 n
def dw0_4_2 (n : Nat) : Except DecodeError (Instr × Nat) := bif Nat.blt n 2880 then dwl code 2816 88 n else dwl code 2880 88 n
def dw0_4_3 (n : Nat) : Except DecodeError (Instr × Nat) := bif Nat.blt n 3008 then dwl code 2944 88 n else dwl code 3008 88 n
def dw0_4_4 (n : Nat) : Except DecodeError (Instr × Nat) := bif Nat.blt n 3136 then dwl code 3072 88 n else dwl code 3136 88 n
def dw0_4 (n : Nat) : Except DecodeError (Instr × Nat) := bif Nat.blt n 2816 then bif Nat.blt n 2688 then dw0_4_0 n else dw0_4_1 n else bif Nat.blt n 2944 then dw0_4_2 n else bif Nat.blt n 3072 then dw0_4_3 n else dw0_4_4 n
def dw0_5_0 (n : Nat) : Except DecodeError (Instr × Nat) := bif Nat.blt n 3264 then dwl code 3200 88 n else dwl code 3264 88 n
def dw0_5_1 (n : Nat) : Except DecodeError (Instr × Nat) := bif Nat.blt n 3392 then dwl code 3328 88 n else dwl code 3392 88 n
def dw0_5_2 (n : Nat) : Except DecodeError (Instr × Nat) := bif Nat.blt n 3520 then dwl code 3456 88 n else dwl code 3520 88 n
def dw0_5_3 (n : Nat) : Except DecodeError (Instr × Nat) := bif Nat.blt n 3648 then dwl code 3584 88 n else dwl code 3648 88 n
def dw0_5_4 (n : Nat) : Except DecodeError (Instr × Nat) := bif Nat.blt n 3776 then dwl code 3712 88 n else dwl code 3776 88 n
def dw0_5 (n : Nat) : Except DecodeError (Instr × Nat) := bif Nat.blt n 3456 then bif Nat.blt n 3328 then dw0_5_0 n else dw0_5_1 n else bif Nat.blt n 3584 then dw0_5_2 n else bif Nat.blt n 3712 then dw0_5_3 n else dw0_5_4 n
def dw0_6_0 (n : Nat) : Except DecodeError (Instr × Nat) := bif Nat.blt n 3904 then dwl code 3840 88 n else dwl code 3904 88 n
def dw0_6_1 (n : Nat) : Except DecodeError (Instr × Nat) := bif Nat.blt n 4032 then dwl code 3968 88 n else dwl code 4032 88 n
def dw0_6_2 (n : Nat) : Except DecodeError (Instr × Nat) := bif Nat.blt n 4160 then dwl code 4096 88 n else dwl code 4160 88 n
def dw0_6_3 (n : Nat) : Except DecodeError (Instr × Nat) := bif Nat.blt n 4288 then dwl code 4224 88 n else dwl code 4288 88 n
def dw0_6_4 (n : Nat) : Except DecodeError (Instr × Nat) := bif Nat.blt n 4416 then dwl code 4352 88 n else dwl code 4416 88 n
def dw0_6 (n : Nat) : Except DecodeError (Instr × Nat) := bif Nat.blt n 4096 then bif Nat.blt n 3968 then dw0_6_0 n else dw0_6_1 n else bif Nat.blt n 4224 then dw0_6_2 n else bif Nat.blt n 4352 then dw0_6_3 n else dw0_6_4 n
def dw0_7 (n : Nat) : Except DecodeError (Instr × Nat) := bif Nat.blt n 4672 then bif Nat.blt n 4544 then dwl code 4480 88 n else bif Nat.blt n 4608 then dwl code 4544 88 n else dwl code 4608 88 n else bif Nat.blt n 4800 then bif Nat.blt n 4736 then dwl code 4672 88 n else dwl code 4736 88 n else bif Nat.blt n 4864 then dwl code 4800 88 n else dwl code 4864 88 n
def dw0 (n : Nat) : Except DecodeError (Instr × Nat) := bif Nat.blt n 2560 then bif Nat.blt n 1280 then bif Nat.blt n 640 then dw0_0 n else dw0_1 n else bif Nat.blt n 1920 then dw0_2 n else dw0_3 n else bif Nat.blt n 3840 then bif Nat.blt n 3200 then dw0_4 n else dw0_5 n else bif Nat.blt n 4480 then dw0_6 n else dw0_7 n
theorem dwo0 : ∀ pc z, dw0 pc = .ok z → decode (mby (imt 0)) pc = .ok z := by
  intro pc z h
  show decode code pc = .ok z
  unfold dw0 dw0_0 dw0_0_0 dw0_0_1 dw0_0_2 dw0_0_3 dw0_0_4 dw0_1 dw0_1_0 dw0_1_1 dw0_1_2 dw0_1_3 dw0_1_4 dw0_2 dw0_2_0 dw0_2_1 dw0_2_2 dw0_2_3 dw0_2_4 dw0_3 dw0_3_0 dw0_3_1 dw0_3_2 dw0_3_3 dw0_3_4 dw0_4 dw0_4_0 dw0_4_1 dw0_4_2 dw0_4_3 dw0_4_4 dw0_5 dw0_5_0 dw0_5_1 dw0_5_2 dw0_5_3 dw0_5_4 dw0_6 dw0_6_0 dw0_6_1 dw0_6_2 dw0_6_3 dw0_6_4 dw0_7 at h
  repeat' (first | exact dwl_ok rfl h | (replace h := bif_or h; rcases h with h | h))
theorem ckM_0_0 : am_l0_0.all (ckP 0) = true := ckPD_ok dwo0 (by decide +kernel)
theorem ckM_0_1 : am_l0_1.all (ckP 0) = true := ckPD_ok dwo0 (by decide +kernel)
theorem ckM_0_2 : am_l0_2.all (ckP 0) = true := ckPD_ok dwo0 (by decide +kernel)
theorem ckM_0_3 : am_l0_3.all (ckP 0) = true := ckPD_ok dwo0 (by decide +kernel)
theorem ckM_0_4 : am_l0_4.all (ckP 0) = true := ckPD_ok dwo0 (by decide +kernel)
theorem ckM_0_5 : am_l0_5.all (ckP 0) = true := ckPD_ok dwo0 (by decide +kernel)
theorem ckM_0_6 : am_l0_6.all (ckP 0) = true := ckPD_ok dwo0 (by decide +kernel)
theorem ckM_0_7 : am_l0_7.all (ckP 0) = true := ckPD_ok dwo0 (by decide +kernel)
theorem ckM_0_8 : am_l0_8.all (ckP 0) = true := ckPD_ok dwo0 (by decide +kernel)
theorem ckM_0_9 : am_l0_9.all (ckP 0) = true := ckPD_ok dwo0 (by decide +kernel)
theorem ckM_0_10 : am_l0_10.all (ckP 0) = true := ckPD_ok dwo0 (by decide +kernel)
theorem ckM_0_11 : am_l0_11.all (ckP 0) = true := ckPD_ok dwo0 (by decide +kernel)
theorem ckM_0_12 : am_l0_12.all (ckP 0) = true := ckPD_ok dwo0 (by decide +kernel)
theorem ckM_0_13 : am_l0_13.all (ckP 0) = true := ckPD_ok dwo0 (by decide +kernel)
theorem ckM_0_14 : am_l0_14.all (ckP 0) = true := ckPD_ok dwo0 (by decide +kernel)
theorem ckM_0_15 : am_l0_15.all (ckP 0) = true := ckPD_ok dwo0 (by decide +kernel)
theorem ckM_0_16 : am_l0_16.all (ckP 0) = true := ckPD_ok dwo0 (by decide +kernel)
theorem ckM_0 : ckM 0 = true := ckM_of rfl (by decide +kernel) (all_ap ckM_0_0 (all_ap ckM_0_1 (all_ap ckM_0_2 (all_ap ckM_0_3 (all_ap ckM_0_4 (all_ap ckM_0_5 (all_ap ckM_0_6 (all_ap ckM_0_7 (all_ap ckM_0_8 (all_ap ckM_0_9 (all_ap ckM_0_10 (all_ap ckM_0_11 (all_ap ckM_0_12 (all_ap ckM_0_13 (all_ap ckM_0_14 (all_ap ckM_0_15 ckM_0_16))))))))))))))))
theorem ckM_1 : ckM 1 = true := by decide +kernel
theorem ckM_2 : ckM 2 = true := by decide +kernel
theorem ckM_3 : ckM 3 = true := by decide +kernel
theorem ckM_4 : ckM 4 = true := by decide +kernel
theorem ckM_5 : ckM 5 = true := by decide +kernel
theorem ckM_6 : ckM 6 = true := by decide +kernel
theorem ckM_7 : ckM 7 = true := by decide +kernel
theorem ckM_8 : ckM 8 = true := by decide +kernel
theorem ckM_9 : ckM 9 = true := by decide +kernel
theorem ckM_10 : ckM 10 = true := by decide +kernel
theorem ckM_11 : ckM 11 = true := by decide +kernel
theorem ckM_12 : ckM 12 = true := by decide +kernel
theorem ckM_13 : ckM 13 = true := by decide +kernel
theorem ckM_14 : ckM 14 = true := by decide +kernel
theorem ckM_15 : ckM 15 = true := by decide +kernel
theorem ckM_16 : ckM 16 = true := by decide +kernel
def dw17_0 (n : Nat) : Except DecodeError (Instr × Nat) := bif Nat.blt n 64 then dwl prog_32_method_1_code 0 88 n else bif Nat.blt n 128 then dwl prog_32_method_1_code 64 88 n else dwl prog_32_method_1_code 128 88 n
def dw17_1 (n : Nat) : Except DecodeError (Instr × Nat) := bif Nat.blt n 256 then dwl prog_32_method_1_code 192 88 n else bif Nat.blt n 320 then dwl prog_32_method_1_code 256 88 n else dwl prog_32_method_1_code 320 88 n
def dw17_2 (n : Nat) : Except DecodeError (Instr × Nat) := bif Nat.blt n 448 then dwl prog_32_method_1_code 384 88 n else bif Nat.blt n 512 then dwl prog_32_method_1_code 448 88 n else dwl prog_32_method_1_code 512 88 n
def dw17_3 (n : Nat) : Except DecodeError (Instr × Nat) := bif Nat.blt n 640 then dwl prog_32_method_1_code 576 88 n else bif Nat.blt n 704 then dwl prog_32_method_1_code 640 88 n else dwl prog_32_method_1_code 704 88 n
def dw17_4 (n : Nat) : Except DecodeError (Instr × Nat) := bif Nat.blt n 832 then dwl prog_32_method_1_code 768 88 n else bif Nat.blt n 896 then dwl prog_32_method_1_code 832 88 n else dwl prog_32_method_1_code 896 88 n
def dw17_5 (n : Nat) : Except DecodeError (Instr × Nat) := bif Nat.blt n 1024 then dwl prog_32_method_1_code 960 88 n else bif Nat.blt n 1088 then dwl prog_32_method_1_code 1024 88 n else dwl prog_32_method_1_code 1088 88 n
def dw17 (n : Nat) : Except DecodeError (Instr × Nat) := bif Nat.blt n 576 then bif Nat.blt n 192 then dw17_0 n else bif Nat.blt n 384 then dw17_1 n else dw17_2 n else bif Nat.blt n 768 then dw17_3 n else bif Nat.blt n 960 then dw17_4 n else dw17_5 n
theorem dwo17 : ∀ pc z, dw17 pc = .ok z → decode (mby (imt 17)) pc = .ok z := by
  intro pc z h
  show decode prog_32_method_1_code pc = .ok z
  unfold dw17 dw17_0 dw17_1 dw17_2 dw17_3 dw17_4 dw17_5 at h
  repeat' (first | exact dwl_ok rfl h | (replace h := bif_or h; rcases h with h | h))
theorem ckM_17_0 : am_l17_0.all (ckP 17) = true := ckPD_ok dwo17 (by decide +kernel)
theorem ckM_17_1 : am_l17_1.all (ckP 17) = true := ckPD_ok dwo17 (by decide +kernel)
theorem ckM_17_2 : am_l17_2.all (ckP 17) = true := ckPD_ok dwo17 (by decide +kernel)
theorem ckM_17_3 : am_l17_3.all (ckP 17) = true := ckPD_ok dwo17 (by decide +kernel)
theorem ckM_17 : ckM 17 = true := ckM_of rfl (by decide +kernel) (all_ap ckM_17_0 (all_ap ckM_17_1 (all_ap ckM_17_2 ckM_17_3)))
theorem ckM_18 : ckM 18 = true := by decide +kernel
theorem ckM_19 : ckM 19 = true := by decide +kernel
theorem ckM_20 : ckM 20 = true := by decide +kernel
theorem ckM_21 : ckM 21 = true := by decide +kernel
theorem ckM_22 : ckM 22 = true := by decide +kernel
theorem ckM_23 : ckM 23 = true := by decide +kernel
theorem ckM_24 : ckM 24 = true := by decide +kernel
theorem ckM_25 : ckM 25 = true := by decide +kernel
theorem ckM_26 : ckM 26 = true := by decide +kernel
theorem ckM_27 : ckM 27 = true := by decide +kernel
theorem ckM_28 : ckM 28 = true := by decide +kernel
theorem ckM_29 : ckM 29 = true := by decide +kernel
theorem ckM_30 : ckM 30 = true := by decide +kernel
theorem ckM_31 : ckM 31 = true := by decide +kernel
def dw32 (n : Nat) : Except DecodeError (Instr × Nat) := bif Nat.blt n 192 then bif Nat.blt n 64 then dwl prog_1_method_9_code 0 196 n else bif Nat.blt n 128 then dwl prog_1_method_9_code 64 88 n else dwl prog_1_method_9_code 128 88 n else bif Nat.blt n 256 then dwl prog_1_method_9_code 192 88 n else bif Nat.blt n 320 then dwl prog_1_method_9_code 256 88 n else dwl prog_1_method_9_code 320 88 n
theorem dwo32 : ∀ pc z, dw32 pc = .ok z → decode (mby (imt 32)) pc = .ok z := by
  intro pc z h
  show decode prog_1_method_9_code pc = .ok z
  unfold dw32 at h
  repeat' (first | exact dwl_ok rfl h | (replace h := bif_or h; rcases h with h | h))
theorem ckM_32_0 : am_l32_0.all (ckP 32) = true := ckPD_ok dwo32 (by decide +kernel)
theorem ckM_32_1 : am_l32_1.all (ckP 32) = true := ckPD_ok dwo32 (by decide +kernel)
theorem ckM_32 : ckM 32 = true := ckM_of rfl (by decide +kernel) (all_ap ckM_32_0 ckM_32_1)
theorem ckM_33 : ckM 33 = true := by decide +kernel
theorem ckM_34 : ckM 34 = true := by decide +kernel
theorem ckM_35 : ckM 35 = true := by decide +kernel
theorem ckM_36 : ckM 36 = true := by decide +kernel
theorem ckM_37 : ckM 37 = true := by decide +kernel
theorem ckM_38 : ckM 38 = true := by decide +kernel
theorem ckM_39 : ckM 39 = true := by decide +kernel
theorem ckM_40 : ckM 40 = true := by decide +kernel
theorem ckM_41 : ckM 41 = true := by decide +kernel
theorem ckM_42 : ckM 42 = true := by decide +kernel
theorem ckM_43 : ckM 43 = true := by decide +kernel
theorem ckM_44 : ckM 44 = true := by decide +kernel
theorem ckM_45 : ckM 45 = true := by decide +kernel
theorem ckM_46 : ckM 46 = true := by decide +kernel
theorem ckM_47 : ckM 47 = true := by decide +kernel
theorem ckM_48 : ckM 48 = true := by decide +kernel
theorem ckM_49 : ckM 49 = true := by decide +kernel
theorem ckM_50 : ckM 50 = true := by decide +kernel
theorem ckM_51 : ckM 51 = true := by decide +kernel
theorem ckM_52 : ckM 52 = true := by decide +kernel
theorem ckM_53 : ckM 53 = true := by decide +kernel
theorem ckM_54 : ckM 54 = true := by decide +kernel
theorem ckM_55 : ckM 55 = true := by decide +kernel
theorem ckM_56 : ckM 56 = true := by decide +kernel
theorem ckM_57 : ckM 57 = true := by decide +kernel
theorem ckM_58 : ckM 58 = true := by decide +kernel
theorem ckM_59 : ckM 59 = true := by decide +kernel
theorem ckM_60 : ckM 60 = true := by decide +kernel
theorem ckM_61 : ckM 61 = true := by decide +kernel
theorem ckM_62 : ckM 62 = true := by decide +kernel
theorem ckM_63 : ckM 63 = true := by decide +kernel
theorem ckM_64 : ckM 64 = true := by decide +kernel
theorem ckM_65 : ckM 65 = true := by decide +kernel
