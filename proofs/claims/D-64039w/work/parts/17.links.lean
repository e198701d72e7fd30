/-! ===== the links of the pools (printed by print_links.py) ===== -/
def lk_F : List (Nat × Nat × Nat × Nat × Nat) := [(0, 9, 38, 128, 0), (0, 15, 50, 131, 0), (0, 19, 54, 132, 0), (0, 27, 62, 134, 0), (0, 34, 66, 135, 0), (0, 38, 70, 136, 0), (0, 48, 40, 129, 0), (0, 89, 44, 130, 0), (0, 97, 134, 559, 0), (0, 100, 108, 418, 0), (0, 113, 112, 420, 0), (0, 144, 56, 133, 0), (0, 151, 24, 96, 0), (0, 157, 20, 94, 0), (0, 204, 72, 137, 0), (0, 207, 148, 705, 0), (0, 210, 146, 690, 0), (0, 213, 28, 120, 0), (0, 216, 32, 122, 0), (0, 231, 76, 138, 0), (1, 9, 2, 88, 0), (1, 15, 6, 89, 0), (1, 19, 24, 95, 0), (1, 30, 16, 92, 0), (1, 33, 8, 90, 0), (1, 44, 12, 91, 0), (1, 61, 108, 419, 0), (1, 64, 20, 93, 0), (2, 7, 152, 728, 0), (2, 13, 156, 729, 0), (2, 16, 160, 730, 0), (2, 19, 166, 744, 745), (2, 29, 146, 689, 0), (3, 7, 212, 849, 0), (3, 13, 148, 694, 695), (3, 16, 223, 851, 0), (3, 20, 219, 850, 0), (3, 23, 166, 738, 739), (3, 33, 146, 682, 683), (3, 37, 146, 685, 0), (4, 7, 200, 820, 0), (4, 13, 166, 734, 735), (5, 12, 174, 779, 0), (5, 18, 178, 780, 0), (5, 22, 182, 781, 0), (5, 26, 184, 782, 0), (5, 30, 188, 783, 0), (5, 33, 148, 702, 0), (5, 38, 108, 417, 0), (5, 43, 148, 703, 704), (5, 44, 195, 784, 0), (5, 52, 166, 742, 743), (5, 59, 146, 686, 0), (5, 75, 134, 557, 0), (6, 7, 32, 121, 0), (6, 13, 28, 119, 0), (7, 7, 86, 384, 0), (7, 15, 90, 387, 0), (7, 19, 94, 390, 0), (7, 23, 83, 382, 0), (7, 27, 96, 392, 0), (8, 7, 170, 764, 0), (8, 13, 148, 698, 699), (8, 23, 166, 732, 733), (8, 33, 146, 679, 680), (8, 36, 146, 681, 0), (9, 7, 134, 555, 0), (10, 7, 196, 807, 0), (10, 13, 166, 740, 741), (11, 10, 138, 675, 0), (11, 16, 142, 676, 0), (11, 20, 108, 416, 0), (11, 26, 148, 700, 701), (11, 42, 134, 556, 0), (12, 9, 118, 422, 0), (12, 15, 108, 415, 0), (12, 26, 134, 558, 0), (12, 48, 112, 421, 0), (13, 7, 204, 833, 0), (13, 13, 148, 692, 693), (13, 16, 211, 834, 0), (13, 20, 166, 736, 737), (13, 30, 146, 684, 0), (13, 34, 146, 687, 688), (14, 14, 106, 411, 0), (14, 20, 83, 383, 0), (14, 24, 94, 391, 0), (14, 39, 96, 394, 0), (14, 43, 86, 385, 0), (14, 47, 90, 388, 0), (14, 67, 102, 396, 0), (15, 7, 129, 473, 0), (15, 19, 122, 471, 0), (15, 29, 124, 472, 0), (15, 33, 96, 393, 0), (15, 36, 102, 395, 0), (15, 39, 86, 386, 0), (15, 43, 90, 389, 0), (16, 7, 234, 960, 0), (16, 13, 238, 961, 0), (16, 17, 242, 962, 0), (16, 20, 250, 964, 0), (16, 23, 254, 965, 0), (16, 26, 262, 967, 0), (16, 29, 274, 970, 0), (16, 32, 278, 971, 0), (16, 35, 282, 972, 0), (16, 38, 310, 979, 0), (16, 41, 314, 980, 0), (16, 44, 318, 981, 0), (16, 47, 322, 982, 0), (16, 50, 326, 983, 0), (16, 53, 350, 989, 0), (16, 56, 224, 958, 0), (16, 60, 228, 959, 0), (16, 71, 244, 963, 0), (16, 82, 256, 966, 0), (16, 85, 268, 969, 0), (16, 95, 284, 973, 0), (16, 107, 264, 968, 0), (16, 119, 292, 975, 0), (16, 122, 288, 974, 0), (16, 125, 299, 976, 0), (16, 129, 339, 986, 0), (16, 132, 328, 984, 0), (16, 135, 332, 985, 0), (16, 138, 304, 978, 0), (16, 159, 344, 988, 0), (16, 162, 303, 977, 0), (16, 204, 340, 987, 0), (17, 7, 146, 677, 0), (18, 7, 166, 731, 0), (18, 13, 148, 691, 0), (18, 17, 148, 696, 697), (18, 18, 146, 678, 0)]
def lk_V : List (Nat × Nat × Nat × Nat × Nat × Nat × Nat × Nat × Nat × Nat) := [(0, 65, 1, 0, 12, 438, 10, 440, 0, 0), (0, 69, 1, 12, 58, 458, 287, 286, 0, 0), (0, 75, 1, 12, 57, 460, 283, 282, 0, 0), (0, 78, 1, 12, 60, 461, 463, 462, 0, 0), (0, 81, 1, 12, 63, 537, 539, 538, 0, 0), (0, 109, 1, 12, 64, 566, 568, 567, 0, 0), (0, 125, 1, 12, 65, 597, 599, 598, 0, 0), (0, 134, 4, 12, 66, 642, 644, 643, 0, 0), (0, 138, 0, 15, 83, 648, 501, 500, 0, 0), (0, 147, 2, 1, 23, 183, 185, 184, 0, 0), (0, 154, 0, 0, 5, 306, 180, 179, 0, 0), (0, 166, 3, 0, 20, 715, 12, 717, 0, 0), (0, 199, 0, 2, 34, 866, 869, 870, 868, 867), (0, 199, 0, 3, 37, 866, 942, 873, 868, 867), (0, 199, 0, 4, 39, 866, 943, 876, 868, 867), (0, 199, 0, 5, 41, 866, 944, 879, 868, 867), (0, 199, 0, 8, 51, 866, 945, 883, 868, 867), (0, 199, 0, 10, 54, 866, 946, 886, 868, 867), (0, 199, 0, 11, 56, 866, 947, 889, 868, 867), (0, 199, 0, 13, 68, 866, 948, 906, 868, 867), (0, 219, 0, 0, 19, 658, 11, 660, 0, 0), (0, 223, 1, 0, 21, 862, 13, 864, 0, 0), (1, 36, 2, 1, 27, 199, 3, 201, 0, 0), (1, 40, 0, 1, 26, 195, 2, 197, 0, 0), (1, 47, 2, 1, 25, 191, 1, 193, 0, 0), (1, 51, 1, 12, 57, 281, 283, 282, 0, 0), (1, 57, 0, 1, 28, 273, 5, 275, 0, 0), (1, 67, 1, 1, 29, 277, 6, 279, 0, 0), (1, 71, 0, 1, 31, 293, 8, 295, 0, 0), (1, 74, 0, 1, 32, 297, 9, 299, 0, 0), (1, 80, 0, 1, 24, 187, 0, 189, 0, 0), (1, 83, 0, 1, 30, 289, 7, 291, 0, 0), (2, 23, 0, 2, 34, 872, 869, 870, 868, 867), (2, 23, 0, 3, 37, 872, 942, 873, 868, 867), (2, 23, 0, 4, 39, 872, 943, 876, 868, 867), (2, 23, 0, 5, 41, 872, 944, 879, 868, 867), (2, 23, 0, 8, 51, 872, 945, 883, 868, 867), (2, 23, 0, 10, 54, 872, 946, 886, 868, 867), (2, 23, 0, 11, 56, 872, 947, 889, 868, 867), (2, 23, 0, 13, 68, 872, 948, 906, 868, 867), (2, 33, 1, 2, 35, 935, 14, 937, 0, 0), (2, 37, 0, 2, 134, 939, 941, 913, 940, 911), (3, 27, 0, 2, 34, 875, 869, 870, 868, 867), (3, 27, 0, 3, 37, 875, 942, 873, 868, 867), (3, 27, 0, 4, 39, 875, 943, 876, 868, 867), (3, 27, 0, 5, 41, 875, 944, 879, 868, 867), (3, 27, 0, 8, 51, 875, 945, 883, 868, 867), (3, 27, 0, 10, 54, 875, 946, 886, 868, 867), (3, 27, 0, 11, 56, 875, 947, 889, 868, 867), (3, 27, 0, 13, 68, 875, 948, 906, 868, 867), (4, 17, 0, 2, 34, 878, 869, 870, 868, 867), (4, 17, 0, 3, 37, 878, 942, 873, 868, 867), (4, 17, 0, 4, 39, 878, 943, 876, 868, 867), (4, 17, 0, 5, 41, 878, 944, 879, 868, 867), (4, 17, 0, 8, 51, 878, 945, 883, 868, 867), (4, 17, 0, 10, 54, 878, 946, 886, 868, 867), (4, 17, 0, 11, 56, 878, 947, 889, 868, 867), (4, 17, 0, 13, 68, 878, 948, 906, 868, 867), (4, 23, 0, 4, 134, 932, 934, 913, 933, 911), (5, 48, 0, 15, 83, 881, 501, 500, 0, 0), (5, 56, 0, 2, 34, 882, 869, 870, 868, 867), (5, 56, 0, 3, 37, 882, 942, 873, 868, 867), (5, 56, 0, 4, 39, 882, 943, 876, 868, 867), (5, 56, 0, 5, 41, 882, 944, 879, 868, 867), (5, 56, 0, 8, 51, 882, 945, 883, 868, 867), (5, 56, 0, 10, 54, 882, 946, 886, 868, 867), (5, 56, 0, 11, 56, 882, 947, 889, 868, 867), (5, 56, 0, 13, 68, 882, 948, 906, 868, 867), (5, 63, 4, 12, 66, 924, 644, 643, 0, 0), (5, 67, 0, 6, 43, 925, 894, 893, 0, 0), (5, 72, 0, 5, 134, 926, 928, 913, 927, 911), (5, 78, 3, 5, 132, 929, 931, 903, 930, 901), (7, 31, 1, 7, 48, 621, 527, 526, 0, 0), (8, 27, 0, 2, 34, 885, 869, 870, 868, 867), (8, 27, 0, 3, 37, 885, 942, 873, 868, 867), (8, 27, 0, 4, 39, 885, 943, 876, 868, 867), (8, 27, 0, 5, 41, 885, 944, 879, 868, 867), (8, 27, 0, 8, 51, 885, 945, 883, 868, 867), (8, 27, 0, 10, 54, 885, 946, 886, 868, 867), (8, 27, 0, 11, 56, 885, 947, 889, 868, 867), (8, 27, 0, 13, 68, 885, 948, 906, 868, 867), (10, 17, 0, 2, 34, 888, 869, 870, 868, 867), (10, 17, 0, 3, 37, 888, 942, 873, 868, 867), (10, 17, 0, 4, 39, 888, 943, 876, 868, 867), (10, 17, 0, 5, 41, 888, 944, 879, 868, 867), (10, 17, 0, 8, 51, 888, 945, 883, 868, 867), (10, 17, 0, 10, 54, 888, 946, 886, 868, 867), (10, 17, 0, 11, 56, 888, 947, 889, 868, 867), (10, 17, 0, 13, 68, 888, 948, 906, 868, 867), (10, 23, 0, 10, 134, 909, 912, 913, 910, 911), (11, 29, 4, 12, 66, 674, 644, 643, 0, 0), (11, 33, 0, 15, 83, 891, 501, 500, 0, 0), (11, 37, 0, 6, 43, 892, 894, 893, 0, 0), (11, 48, 3, 11, 132, 899, 902, 903, 900, 901), (12, 20, 1, 12, 58, 285, 287, 286, 0, 0), (12, 36, 1, 14, 74, 541, 543, 542, 0, 0), (12, 44, 2, 14, 71, 510, 512, 511, 0, 0), (12, 51, 1, 14, 75, 601, 603, 602, 0, 0), (12, 64, 3, 15, 82, 483, 485, 484, 0, 0), (12, 68, 0, 15, 83, 499, 501, 500, 0, 0), (13, 24, 0, 2, 34, 908, 869, 870, 868, 867), (13, 24, 0, 3, 37, 908, 942, 873, 868, 867), (13, 24, 0, 4, 39, 908, 943, 876, 868, 867), (13, 24, 0, 5, 41, 908, 944, 879, 868, 867), (13, 24, 0, 8, 51, 908, 945, 883, 868, 867), (13, 24, 0, 10, 54, 908, 946, 886, 868, 867), (13, 24, 0, 11, 56, 908, 947, 889, 868, 867), (13, 24, 0, 13, 68, 908, 948, 906, 868, 867), (14, 28, 1, 7, 45, 491, 493, 492, 0, 0), (14, 32, 1, 14, 70, 545, 489, 488, 0, 0), (14, 36, 1, 7, 46, 517, 497, 496, 0, 0), (14, 59, 4, 7, 47, 518, 520, 519, 0, 0), (14, 63, 1, 7, 48, 525, 527, 526, 0, 0), (14, 86, 0, 7, 49, 617, 619, 618, 0, 0), (15, 13, 1, 14, 70, 487, 489, 488, 0, 0), (15, 23, 1, 7, 46, 495, 497, 496, 0, 0), (16, 63, 1, 16, 88, 1068, 15, 1070, 0, 0), (16, 67, 2, 16, 89, 1072, 16, 1074, 0, 0), (16, 74, 2, 16, 92, 1084, 17, 1086, 0, 0), (16, 78, 1, 16, 93, 1088, 18, 1090, 0, 0), (16, 88, 1, 16, 103, 1128, 21, 1130, 0, 0), (16, 91, 2, 16, 104, 1132, 22, 1134, 0, 0), (16, 98, 1, 16, 106, 1140, 24, 1142, 0, 0), (16, 101, 1, 16, 107, 1144, 25, 1146, 0, 0), (16, 104, 1, 16, 108, 1148, 26, 1150, 0, 0), (16, 110, 0, 16, 102, 1124, 20, 1126, 0, 0), (16, 113, 2, 16, 105, 1136, 23, 1138, 0, 0), (16, 116, 0, 16, 101, 1120, 19, 1122, 0, 0), (16, 145, 1, 16, 122, 1203, 37, 1205, 0, 0), (16, 149, 2, 16, 123, 1207, 38, 1209, 0, 0), (16, 153, 1, 16, 124, 1211, 39, 1213, 0, 0), (16, 156, 1, 16, 120, 1196, 36, 1198, 0, 0), (16, 165, 1, 16, 119, 1192, 35, 1194, 0, 0), (16, 168, 1, 16, 116, 1180, 32, 1182, 0, 0), (16, 171, 0, 16, 117, 1184, 33, 1186, 0, 0), (16, 175, 3, 16, 118, 1188, 34, 1190, 0, 0), (16, 179, 0, 16, 127, 1223, 42, 1225, 0, 0), (16, 183, 1, 16, 113, 1168, 29, 1170, 0, 0), (16, 186, 1, 16, 114, 1172, 30, 1174, 0, 0), (16, 189, 1, 16, 115, 1176, 31, 1178, 0, 0), (16, 192, 1, 16, 125, 1215, 40, 1217, 0, 0), (16, 195, 0, 16, 126, 1219, 41, 1221, 0, 0), (16, 198, 1, 16, 111, 1160, 27, 1162, 0, 0), (16, 201, 0, 16, 112, 1164, 28, 1166, 0, 0), (18, 22, 3, 2, 132, 915, 917, 903, 916, 901), (18, 22, 3, 3, 132, 915, 918, 903, 916, 901), (18, 22, 3, 4, 132, 915, 919, 903, 916, 901), (18, 22, 3, 5, 132, 915, 920, 903, 916, 901), (18, 22, 3, 8, 132, 915, 921, 903, 916, 901), (18, 22, 3, 10, 132, 915, 922, 903, 916, 901), (18, 22, 3, 13, 132, 915, 923, 903, 916, 901), (19, 7, 1, 0, 10, 324, 326, 325, 0, 0), (19, 17, 2, 0, 11, 434, 436, 435, 0, 0), (19, 23, 1, 0, 13, 533, 535, 534, 0, 0), (19, 28, 2, 0, 14, 574, 576, 575, 0, 0), (19, 34, 3, 0, 16, 628, 630, 629, 0, 0), (19, 38, 2, 0, 17, 635, 637, 636, 0, 0), (19, 41, 1, 0, 18, 653, 655, 654, 0, 0), (19, 53, 1, 16, 86, 1060, 1062, 1061, 0, 0), (19, 54, 0, 16, 85, 1056, 1058, 1057, 0, 0), (19, 61, 2, 16, 87, 1064, 1066, 1065, 0, 0), (19, 62, 2, 0, 1, 162, 164, 163, 0, 0), (19, 65, 2, 16, 90, 1076, 1078, 1077, 0, 0), (19, 68, 1, 16, 91, 1080, 1082, 1081, 0, 0), (19, 71, 2, 16, 94, 1092, 1094, 1093, 0, 0), (19, 75, 3, 16, 95, 1096, 1098, 1097, 0, 0), (19, 78, 2, 16, 96, 1100, 1102, 1101, 0, 0), (19, 79, 1, 0, 2, 166, 168, 167, 0, 0), (19, 82, 1, 16, 97, 1104, 1106, 1105, 0, 0), (19, 83, 1, 0, 3, 170, 172, 171, 0, 0), (19, 87, 1, 16, 98, 1108, 1110, 1109, 0, 0), (19, 88, 0, 0, 4, 174, 176, 175, 0, 0), (19, 91, 0, 16, 99, 1112, 1114, 1113, 0, 0), (19, 92, 0, 0, 5, 178, 180, 179, 0, 0), (19, 95, 0, 16, 100, 1116, 1118, 1117, 0, 0), (19, 98, 1, 16, 110, 1156, 1158, 1157, 0, 0), (19, 99, 0, 0, 7, 307, 309, 308, 0, 0), (19, 102, 0, 16, 128, 1227, 1229, 1228, 0, 0), (19, 103, 0, 0, 8, 311, 313, 312, 0, 0), (19, 106, 0, 16, 129, 1231, 1233, 1232, 0, 0), (19, 107, 1, 0, 9, 315, 317, 316, 0, 0), (19, 110, 1, 16, 130, 1235, 1237, 1236, 0, 0), (19, 111, 0, 0, 6, 302, 304, 303, 0, 0), (19, 114, 0, 16, 109, 1152, 1154, 1153, 0, 0)]
def lk_S : List (Nat × Nat × Nat × Nat × Nat × Nat) := [(0, 121, 15, 2, 578, 579), (12, 32, 62, 2, 506, 507), (12, 40, 61, 2, 503, 504), (14, 51, 72, 3, 514, 515), (14, 55, 73, 2, 522, 523), (14, 70, 76, 2, 605, 606), (14, 74, 77, 2, 608, 609), (14, 77, 78, 2, 611, 612), (14, 80, 79, 2, 614, 615), (14, 83, 80, 2, 622, 623), (16, 141, 121, 3, 1200, 1201), (19, 48, 135, 3, 319, 320), (19, 58, 136, 4, 430, 431), (19, 66, 137, 3, 529, 530), (19, 69, 138, 4, 570, 571), (19, 72, 139, 5, 625, 626), (19, 76, 140, 4, 632, 633), (19, 96, 141, 3, 650, 651)]
def lk_I : List (Nat × Nat × Nat × Nat × Nat × Nat) := [(0, 24, 22, 2, 84, 85), (0, 33, 42, 0, 115, 116), (0, 57, 59, 1, 361, 362), (0, 96, 52, 0, 551, 552), (0, 130, 81, 0, 640, 468), (0, 163, 55, 5, 665, 666), (0, 172, 33, 4, 721, 722), (0, 177, 50, 4, 759, 760), (0, 182, 40, 5, 773, 774), (0, 187, 53, 2, 803, 804), (0, 192, 38, 2, 816, 817), (0, 195, 67, 2, 829, 830), (0, 198, 36, 2, 845, 846), (2, 1, 133, 1, 724, 725), (3, 1, 133, 1, 848, 725), (4, 1, 133, 1, 819, 725), (5, 1, 133, 1, 776, 725), (5, 9, 81, 0, 778, 468), (8, 1, 133, 1, 762, 725), (10, 1, 133, 1, 806, 725), (11, 1, 131, 0, 668, 669), (11, 9, 81, 0, 673, 468), (12, 19, 69, 0, 368, 369), (12, 57, 81, 0, 467, 468), (13, 1, 133, 1, 832, 725), (14, 11, 44, 1, 374, 375), (18, 1, 131, 0, 727, 669), (19, 44, 0, 0, 74, 75), (19, 47, 84, 0, 954, 955)]
def lk_N : List (Nat × Nat × Nat × Nat) := [(0, 7, 12, 80), (0, 22, 1, 82), (0, 31, 6, 113), (0, 94, 9, 549), (0, 128, 15, 639), (0, 160, 11, 662), (0, 170, 2, 719), (0, 175, 8, 757), (0, 180, 5, 771), (0, 185, 10, 801), (0, 190, 4, 814), (0, 193, 13, 827), (0, 196, 3, 843), (5, 7, 15, 777), (11, 7, 15, 672), (12, 7, 14, 365), (12, 55, 15, 465), (14, 9, 7, 372), (19, 8, 0, 72), (19, 45, 16, 952)]
def lk_A : List (Nat × Nat × Nat × Nat × Nat) := [(0, 7, 6, 80, 81), (7, 8, 4, 380, 381), (7, 13, 3, 378, 379), (12, 7, 5, 365, 366)]
def lk_X : List (Nat × Nat × Nat × Nat × Nat × Nat × Nat) := [(0, 41, 0, 43, 45, 328, 338), (0, 41, 0, 211, 45, 328, 338), (0, 52, 3, 54, 56, 344, 354), (0, 52, 3, 92, 56, 344, 354), (0, 52, 3, 208, 56, 344, 354), (0, 52, 3, 227, 56, 344, 354), (0, 60, 2, 62, 64, 442, 452), (0, 60, 2, 73, 64, 442, 452), (0, 84, 1, 86, 88, 182, 547), (0, 84, 1, 229, 88, 182, 547), (0, 116, 4, 118, 120, 581, 591), (0, 116, 4, 142, 120, 581, 591), (1, 23, 1, 25, 27, 203, 247), (6, 16, 1, 18, 20, 896, 898)]
def lk_O : List (Nat × Nat × Nat) := [(0, 1, 77), (1, 3, 87), (6, 1, 118), (7, 1, 377), (9, 1, 554), (12, 1, 364), (14, 3, 371), (15, 1, 470), (16, 1, 957), (17, 1, 671)]
def lk_C : List (Nat × Nat × Nat) := [(0, 103, 563), (8, 17, 763), (17, 13, 905)]
def lk_Ki : List (Nat × Nat × Int32 × Nat) := [(0, 133, 2147483647, 641), (0, 162, (-2147483648), 664), (1, 79, 2147483647, 301), (12, 74, (-2147483648), 646), (12, 75, 2147483647, 647)]
def lk_Kl : List (Nat × Nat × Int64 × Nat) := [(12, 24, 2147483648, 509), (12, 60, (-9223372036854775808), 481), (12, 62, 9223372036854775807, 482)]
/-- places of a method's words -/
def x_mi : List (Nat × Nat) := [(76, 44), (165, 44), (169, 44), (173, 44), (177, 44), (181, 44), (305, 44), (310, 44), (314, 44), (318, 44), (327, 44), (437, 44), (441, 44), (536, 44), (577, 44), (580, 44), (631, 44), (638, 44), (656, 44), (661, 44), (718, 44), (865, 44), (86, 45), (186, 45), (190, 45), (194, 45), (198, 45), (202, 45), (276, 45), (280, 45), (292, 45), (296, 45), (300, 45), (723, 65), (871, 65), (938, 65), (847, 71), (874, 71), (818, 69), (877, 69), (775, 67), (880, 67), (117, 46), (895, 46), (376, 55), (494, 55), (498, 55), (521, 55), (528, 55), (620, 55), (761, 66), (884, 66), (553, 59), (805, 68), (887, 68), (667, 63), (890, 63), (284, 53), (288, 53), (363, 53), (464, 53), (505, 53), (508, 53), (540, 53), (569, 53), (600, 53), (645, 53), (831, 70), (907, 70), (370, 54), (490, 54), (513, 54), (516, 54), (524, 54), (544, 54), (604, 54), (607, 54), (610, 54), (613, 54), (616, 54), (624, 54), (469, 57), (486, 57), (502, 57), (956, 47), (1059, 47), (1063, 47), (1067, 47), (1071, 47), (1075, 47), (1079, 47), (1083, 47), (1087, 47), (1091, 47), (1095, 47), (1099, 47), (1103, 47), (1107, 47), (1111, 47), (1115, 47), (1119, 47), (1123, 47), (1127, 47), (1131, 47), (1135, 47), (1139, 47), (1143, 47), (1147, 47), (1151, 47), (1155, 47), (1159, 47), (1163, 47), (1167, 47), (1171, 47), (1175, 47), (1179, 47), (1183, 47), (1187, 47), (1191, 47), (1195, 47), (1199, 47), (1202, 47), (1206, 47), (1210, 47), (1214, 47), (1218, 47), (1222, 47), (1226, 47), (1230, 47), (1234, 47), (1238, 47), (670, 62), (904, 62), (726, 64), (914, 64), (321, 43), (432, 43), (531, 43), (572, 43), (627, 43), (634, 43), (652, 43)]
theorem tm {w : Jvm.Cond} {i : Nat} (h : lw_tbl[i]? = some w) : w ∈ lw_tbl := List.mem_of_getElem? h
def ckF (r : Nat × Nat × Nat × Nat × Nat) : Bool := match lw_tbl[r.2.2.2.1]? with
  | some (.fieldLink a b ref n d) => decide (a = oN r.1) && decide (b = r.2.1) && decide (n = (fD r.2.2.1).2.1) && decide (d = (fD r.2.2.1).2.2.1) && (decide (ref = (fD r.2.2.1).1) || decide (lw_tbl[r.2.2.2.2]? = some (.sameField ref (fD r.2.2.1).1 n d)))
  | _ => false
theorem ckF_ok {r : Nat × Nat × Nat × Nat × Nat} (h : ckF r = true) : fOK r.1 r.2.1 r.2.2.1 := by
  unfold ckF at h
  split at h
  · rename_i a b ref n d e
    simp only [Bool.and_eq_true, Bool.or_eq_true, decide_eq_true_eq] at h
    obtain ⟨⟨⟨⟨rfl, rfl⟩, rfl⟩, rfl⟩, h⟩ := h
    exact ⟨ref, tm e, h.imp id tm⟩
  · cases h
theorem lk_F_ck : lk_F.all ckF = true := by decide +kernel
theorem lk_F_ok {o i f : Nat} (h : lk_F.any (fun r => r.1 == o && r.2.1 == i && r.2.2.1 == f) = true) : fOK o i f := by
  obtain ⟨r, hr, h⟩ := List.any_eq_true.mp h
  simp only [Bool.and_eq_true, beq_iff_eq] at h
  obtain ⟨⟨rfl, rfl⟩, rfl⟩ := h
  exact ckF_ok (List.all_eq_true.mp lk_F_ck r hr)
def ckV (r : Nat × Nat × Nat × Nat × Nat × Nat × Nat × Nat × Nat × Nat) : Bool := match r with
  | (o, i, n, c, M', i1, i2, i3, i4, i5) => match lw_tbl[i1]? with
    | some (.methodLink a b x) => decide (a = oN o) && decide (b = i) && decide (lw_tbl[i2]? = some (.selects (oN c) x (mY M'))) && decide (c < 17) && decide (lw_tbl[i3]? = some (.instanceMethod (mY M'))) && decide ((parseMethodDescriptor x.desc).map (fun d => d.parameters.length) = some n) &&
        (decide (x = mY M') || (match lw_tbl[i4]? with
          | some (.sameMethod q w nm ds) => decide (q = x.cls) && decide (nm = x.name) && decide (ds = x.desc) && decide (lw_tbl[i5]? = some (.declares ⟨w, x.name, x.desc⟩)) && decide (w ≠ "java/lang/invoke/MethodHandle") && decide (w ≠ "java/lang/invoke/VarHandle")
          | _ => false))
    | _ => false
theorem ckV_ok {o i n c M' i1 i2 i3 i4 i5 : Nat} (h : ckV (o, i, n, c, M', i1, i2, i3, i4, i5) = true) : vOK o i n c M' := by
  unfold ckV at h
  dsimp only at h
  split at h
  · rename_i a b x e
    simp only [Bool.and_eq_true, Bool.or_eq_true, decide_eq_true_eq] at h
    obtain ⟨⟨⟨⟨⟨⟨rfl, rfl⟩, h2⟩, h3⟩, h4⟩, h5⟩, h6⟩ := h
    refine ⟨x, tm e, tm h2, h3, tm h4, h5, ?_⟩
    rcases h6 with h6 | h6
    · exact Or.inl h6
    · split at h6
      · rename_i q w nm ds e2
        simp only [Bool.and_eq_true, decide_eq_true_eq] at h6
        obtain ⟨⟨⟨⟨⟨rfl, rfl⟩, rfl⟩, h7⟩, h8⟩, h9⟩ := h6
        exact Or.inr ⟨w, tm e2, tm h7, h8, h9⟩
      · cases h6
  · cases h
theorem lk_V_ck : lk_V.all ckV = true := by decide +kernel
theorem lk_V_ok {o i n c M' : Nat} (h : lk_V.any (fun r => r.1 == o && r.2.1 == i && r.2.2.1 == n && r.2.2.2.1 == c && r.2.2.2.2.1 == M') = true) : vOK o i n c M' := by
  obtain ⟨⟨o', i', n', c', m', i1, i2, i3, i4, i5⟩, hr, h⟩ := List.any_eq_true.mp h
  simp only [Bool.and_eq_true, beq_iff_eq] at h
  obtain ⟨⟨⟨⟨rfl, rfl⟩, rfl⟩, rfl⟩, rfl⟩ := h
  exact ckV_ok (List.all_eq_true.mp lk_V_ck _ hr)
theorem lk_S_ck : ∀ r ∈ lk_S, (lw_tbl[r.2.2.2.2.1]? = some (.methodLink (oN r.1) r.2.1 (mY r.2.2.1)) ∧ lw_tbl[r.2.2.2.2.2]? = some (.static (mY r.2.2.1)) ∧ (parseMethodDescriptor (mY r.2.2.1).desc).map (fun d => d.parameters.length) = some r.2.2.2.1) := by decide +kernel
theorem lk_S_ok {o i M' n : Nat} (h : lk_S.any (fun r => r.1 == o && r.2.1 == i && r.2.2.1 == M' && r.2.2.2.1 == n) = true) : sOK o i M' n := by
  obtain ⟨r, hr, h⟩ := List.any_eq_true.mp h
  simp only [Bool.and_eq_true, beq_iff_eq] at h
  obtain ⟨⟨⟨rfl, rfl⟩, rfl⟩, rfl⟩ := h
  obtain ⟨h1, h2, h3⟩ := lk_S_ck r hr
  exact ⟨tm h1, tm h2, h3⟩
theorem lk_I_ck : ∀ r ∈ lk_I, ((mY r.2.2.1).name = "<init>" ∧ mX r.2.2.1 = [] ∧ mR r.2.2.1 = none ∧ (lw_tbl[r.2.2.2.2.1]? = some (.methodLink (oN r.1) r.2.1 (mY r.2.2.1)) ∨ lw_tbl[r.2.2.2.2.1]? = some (.methodLinkNest (oN r.1) r.2.1 (mY r.2.2.1) "PlannedTables")) ∧ lw_tbl[r.2.2.2.2.2]? = some (.instanceMethod (mY r.2.2.1)) ∧ (parseMethodDescriptor (mY r.2.2.1).desc).map (fun d => d.parameters.length) = some r.2.2.2.1) := by decide +kernel
theorem lk_I_ok {o i M' n : Nat} (h : lk_I.any (fun r => r.1 == o && r.2.1 == i && r.2.2.1 == M' && r.2.2.2.1 == n) = true) : iOK o i M' n := by
  obtain ⟨r, hr, h⟩ := List.any_eq_true.mp h
  simp only [Bool.and_eq_true, beq_iff_eq] at h
  obtain ⟨⟨⟨rfl, rfl⟩, rfl⟩, rfl⟩ := h
  obtain ⟨h1, h2, h3, h4, h5, h6⟩ := lk_I_ck r hr
  exact ⟨h1, h2, h3, h4.imp tm (fun z => ⟨_, tm z⟩), tm h5, h6⟩
theorem lk_N_ck : ∀ r ∈ lk_N, (r.2.2.1 < 17 ∧ lw_tbl[r.2.2.2]? = some (.classLink (oN r.1) r.2.1 (oN r.2.2.1))) := by decide +kernel
theorem lk_N_ok {o i c : Nat} (h : lk_N.any (fun r => r.1 == o && r.2.1 == i && r.2.2.1 == c) = true) : c < 17 ∧ Jvm.Cond.classLink (oN o) i (oN c) ∈ lw_tbl := by
  obtain ⟨r, hr, h⟩ := List.any_eq_true.mp h
  simp only [Bool.and_eq_true, beq_iff_eq] at h
  obtain ⟨⟨rfl, rfl⟩, rfl⟩ := h
  exact ⟨(lk_N_ck r hr).1, tm (lk_N_ck r hr).2⟩
theorem lk_A_ck : ∀ r ∈ lk_A, (3 ≤ r.2.2.1 ∧ r.2.2.1 ≤ 6 ∧ lw_tbl[r.2.2.2.1]? = some (.classLink (oN r.1) r.2.1 (oN (cmpC r.2.2.1))) ∧ lw_tbl[r.2.2.2.2]? = some (.arrayOver (.object (oN (cmpC r.2.2.1))))) := by decide +kernel
theorem lk_A_ok {o i t : Nat} (h : lk_A.any (fun r => r.1 == o && r.2.1 == i && r.2.2.1 == t) = true) : 3 ≤ t ∧ t ≤ 6 ∧ Jvm.Cond.classLink (oN o) i (oN (cmpC t)) ∈ lw_tbl ∧ Jvm.Cond.arrayOver (.object (oN (cmpC t))) ∈ lw_tbl := by
  obtain ⟨r, hr, h⟩ := List.any_eq_true.mp h
  simp only [Bool.and_eq_true, beq_iff_eq] at h
  obtain ⟨⟨rfl, rfl⟩, rfl⟩ := h
  obtain ⟨h1, h2, h3, h4⟩ := lk_A_ck r hr
  exact ⟨h1, h2, tm h3, tm h4⟩
theorem lk_X_ck : ∀ r ∈ lk_X, (r.2.2.1 < 5 ∧ (x_str.any (fun q => q.1 == r.1 && q.2.1 == r.2.2.2.1)) = true ∧ lw_tbl[r.2.2.2.2.2.1]? = some (.classLink (oN r.1) r.2.1 (eN r.2.2.1)) ∧ lw_tbl[r.2.2.2.2.2.2]? = some (.methodLink (oN r.1) r.2.2.2.2.1 (Bundle.initS (eN r.2.2.1)))) := by decide +kernel
theorem lk_X_ok {o i ex j ic : Nat} (h : lk_X.any (fun r => r.1 == o && r.2.1 == i && r.2.2.1 == ex && r.2.2.2.1 == j && r.2.2.2.2.1 == ic) = true) : ex < 5 ∧ (∃ tx, (o, j, tx) ∈ x_str) ∧ Jvm.Cond.classLink (oN o) i (eN ex) ∈ lw_tbl ∧ Jvm.Cond.methodLink (oN o) ic (Bundle.initS (eN ex)) ∈ lw_tbl := by
  obtain ⟨r, hr, h⟩ := List.any_eq_true.mp h
  simp only [Bool.and_eq_true, beq_iff_eq] at h
  obtain ⟨⟨⟨⟨rfl, rfl⟩, rfl⟩, rfl⟩, rfl⟩ := h
  obtain ⟨h1, h2, h3, h4⟩ := lk_X_ck r hr
  obtain ⟨q, hq, h5⟩ := List.any_eq_true.mp h2
  simp only [Bool.and_eq_true, beq_iff_eq] at h5
  obtain ⟨q1, q2, q3⟩ := q
  exact ⟨h1, ⟨q3, by rw [← h5.1, ← h5.2]; exact hq⟩, tm h3, tm h4⟩
theorem lk_O_ck : ∀ r ∈ lk_O, lw_tbl[r.2.2]? = some (.methodLink (oN r.1) r.2.1 objectInit) := by decide +kernel
theorem lk_O_ok {o i : Nat} (h : lk_O.any (fun r => r.1 == o && r.2.1 == i) = true) : Jvm.Cond.methodLink (oN o) i objectInit ∈ lw_tbl := by
  obtain ⟨r, hr, h⟩ := List.any_eq_true.mp h
  simp only [Bool.and_eq_true, beq_iff_eq] at h
  obtain ⟨rfl, rfl⟩ := h
  exact tm (lk_O_ck r hr)
theorem lk_C_ck : ∀ r ∈ lk_C, lw_tbl[r.2.2]? = some (.methodLink (oN r.1) r.2.1 arraycopyName) := by decide +kernel
theorem lk_C_ok {o i : Nat} (h : lk_C.any (fun r => r.1 == o && r.2.1 == i) = true) : Jvm.Cond.methodLink (oN o) i arraycopyName ∈ lw_tbl := by
  obtain ⟨r, hr, h⟩ := List.any_eq_true.mp h
  simp only [Bool.and_eq_true, beq_iff_eq] at h
  obtain ⟨rfl, rfl⟩ := h
  exact tm (lk_C_ck r hr)
theorem lk_Ki_ck : ∀ r ∈ lk_Ki, lw_tbl[r.2.2.2]? = some (.constant (oN r.1) r.2.1 r.2.2.1) := by decide +kernel
theorem lk_Ki_ok {o i : Nat} {v : Int32} (h : lk_Ki.any (fun r => r.1 == o && r.2.1 == i && decide (r.2.2.1 = v)) = true) : Jvm.Cond.constant (oN o) i v ∈ lw_tbl := by
  obtain ⟨r, hr, h⟩ := List.any_eq_true.mp h
  simp only [Bool.and_eq_true, beq_iff_eq, decide_eq_true_eq] at h
  obtain ⟨⟨rfl, rfl⟩, rfl⟩ := h
  exact tm (lk_Ki_ck r hr)
theorem lk_Kl_ck : ∀ r ∈ lk_Kl, lw_tbl[r.2.2.2]? = some (.constantLong (oN r.1) r.2.1 r.2.2.1) := by decide +kernel
theorem lk_Kl_ok {o i : Nat} {v : Int64} (h : lk_Kl.any (fun r => r.1 == o && r.2.1 == i && decide (r.2.2.1 = v)) = true) : Jvm.Cond.constantLong (oN o) i v ∈ lw_tbl := by
  obtain ⟨r, hr, h⟩ := List.any_eq_true.mp h
  simp only [Bool.and_eq_true, beq_iff_eq, decide_eq_true_eq] at h
  obtain ⟨⟨rfl, rfl⟩, rfl⟩ := h
  exact tm (lk_Kl_ck r hr)

set_option maxRecDepth 100000 in
theorem mw_0 : mOK 0 := ⟨Or.inl ⟨rfl, (tm (i := 76) (w := .code (mY 0) (mB 0) (mL 0) (mR 0)) rfl)⟩, tm (i := 44) (by decide +kernel), by decide +kernel, by decide +kernel, by decide +kernel, by decide +kernel⟩
set_option maxRecDepth 100000 in
theorem mw_1 : mOK 1 := ⟨Or.inl ⟨rfl, (tm (i := 165) (w := .code (mY 1) (mB 1) (mL 1) (mR 1)) rfl)⟩, tm (i := 44) (by decide +kernel), by decide +kernel, by decide +kernel, by decide +kernel, by decide +kernel⟩
set_option maxRecDepth 100000 in
theorem mw_2 : mOK 2 := ⟨Or.inl ⟨rfl, (tm (i := 169) (w := .code (mY 2) (mB 2) (mL 2) (mR 2)) rfl)⟩, tm (i := 44) (by decide +kernel), by decide +kernel, by decide +kernel, by decide +kernel, by decide +kernel⟩
set_option maxRecDepth 100000 in
theorem mw_3 : mOK 3 := ⟨Or.inl ⟨rfl, (tm (i := 173) (w := .code (mY 3) (mB 3) (mL 3) (mR 3)) rfl)⟩, tm (i := 44) (by decide +kernel), by decide +kernel, by decide +kernel, by decide +kernel, by decide +kernel⟩
set_option maxRecDepth 100000 in
theorem mw_4 : mOK 4 := ⟨Or.inl ⟨rfl, (tm (i := 177) (w := .code (mY 4) (mB 4) (mL 4) (mR 4)) rfl)⟩, tm (i := 44) (by decide +kernel), by decide +kernel, by decide +kernel, by decide +kernel, by decide +kernel⟩
set_option maxRecDepth 100000 in
theorem mw_5 : mOK 5 := ⟨Or.inr (tm (i := 181) (w := .codeWith (mY 5) (mB 5) (mL 5) (mR 5) (mX 5)) rfl), tm (i := 44) (by decide +kernel), by decide +kernel, by decide +kernel, by decide +kernel, by decide +kernel⟩
set_option maxRecDepth 100000 in
theorem mw_6 : mOK 6 := ⟨Or.inl ⟨rfl, (tm (i := 305) (w := .code (mY 6) (mB 6) (mL 6) (mR 6)) rfl)⟩, tm (i := 44) (by decide +kernel), by decide +kernel, by decide +kernel, by decide +kernel, by decide +kernel⟩
set_option maxRecDepth 100000 in
theorem mw_7 : mOK 7 := ⟨Or.inl ⟨rfl, (tm (i := 310) (w := .code (mY 7) (mB 7) (mL 7) (mR 7)) rfl)⟩, tm (i := 44) (by decide +kernel), by decide +kernel, by decide +kernel, by decide +kernel, by decide +kernel⟩
set_option maxRecDepth 100000 in
theorem mw_8 : mOK 8 := ⟨Or.inl ⟨rfl, (tm (i := 314) (w := .code (mY 8) (mB 8) (mL 8) (mR 8)) rfl)⟩, tm (i := 44) (by decide +kernel), by decide +kernel, by decide +kernel, by decide +kernel, by decide +kernel⟩
set_option maxRecDepth 100000 in
theorem mw_9 : mOK 9 := ⟨Or.inl ⟨rfl, (tm (i := 318) (w := .code (mY 9) (mB 9) (mL 9) (mR 9)) rfl)⟩, tm (i := 44) (by decide +kernel), by decide +kernel, by decide +kernel, by decide +kernel, by decide +kernel⟩
set_option maxRecDepth 100000 in
theorem mw_10 : mOK 10 := ⟨Or.inl ⟨rfl, (tm (i := 327) (w := .code (mY 10) (mB 10) (mL 10) (mR 10)) rfl)⟩, tm (i := 44) (by decide +kernel), by decide +kernel, by decide +kernel, by decide +kernel, by decide +kernel⟩
set_option maxRecDepth 100000 in
theorem mw_11 : mOK 11 := ⟨Or.inl ⟨rfl, (tm (i := 437) (w := .code (mY 11) (mB 11) (mL 11) (mR 11)) rfl)⟩, tm (i := 44) (by decide +kernel), by decide +kernel, by decide +kernel, by decide +kernel, by decide +kernel⟩
set_option maxRecDepth 100000 in
theorem mw_12 : mOK 12 := ⟨Or.inl ⟨rfl, (tm (i := 441) (w := .code (mY 12) (mB 12) (mL 12) (mR 12)) rfl)⟩, tm (i := 44) (by decide +kernel), by decide +kernel, by decide +kernel, by decide +kernel, by decide +kernel⟩
set_option maxRecDepth 100000 in
theorem mw_13 : mOK 13 := ⟨Or.inl ⟨rfl, (tm (i := 536) (w := .code (mY 13) (mB 13) (mL 13) (mR 13)) rfl)⟩, tm (i := 44) (by decide +kernel), by decide +kernel, by decide +kernel, by decide +kernel, by decide +kernel⟩
set_option maxRecDepth 100000 in
theorem mw_14 : mOK 14 := ⟨Or.inl ⟨rfl, (tm (i := 577) (w := .code (mY 14) (mB 14) (mL 14) (mR 14)) rfl)⟩, tm (i := 44) (by decide +kernel), by decide +kernel, by decide +kernel, by decide +kernel, by decide +kernel⟩
set_option maxRecDepth 100000 in
theorem mw_15 : mOK 15 := ⟨Or.inl ⟨rfl, (tm (i := 580) (w := .code (mY 15) (mB 15) (mL 15) (mR 15)) rfl)⟩, tm (i := 44) (by decide +kernel), by decide +kernel, by decide +kernel, by decide +kernel, by decide +kernel⟩
set_option maxRecDepth 100000 in
theorem mw_16 : mOK 16 := ⟨Or.inl ⟨rfl, (tm (i := 631) (w := .code (mY 16) (mB 16) (mL 16) (mR 16)) rfl)⟩, tm (i := 44) (by decide +kernel), by decide +kernel, by decide +kernel, by decide +kernel, by decide +kernel⟩
set_option maxRecDepth 100000 in
theorem mw_17 : mOK 17 := ⟨Or.inl ⟨rfl, (tm (i := 638) (w := .code (mY 17) (mB 17) (mL 17) (mR 17)) rfl)⟩, tm (i := 44) (by decide +kernel), by decide +kernel, by decide +kernel, by decide +kernel, by decide +kernel⟩
set_option maxRecDepth 100000 in
theorem mw_18 : mOK 18 := ⟨Or.inr (tm (i := 656) (w := .codeWith (mY 18) (mB 18) (mL 18) (mR 18) (mX 18)) rfl), tm (i := 44) (by decide +kernel), by decide +kernel, by decide +kernel, by decide +kernel, by decide +kernel⟩
set_option maxRecDepth 100000 in
theorem mw_19 : mOK 19 := ⟨Or.inl ⟨rfl, (tm (i := 661) (w := .code (mY 19) (mB 19) (mL 19) (mR 19)) rfl)⟩, tm (i := 44) (by decide +kernel), by decide +kernel, by decide +kernel, by decide +kernel, by decide +kernel⟩
set_option maxRecDepth 100000 in
theorem mw_20 : mOK 20 := ⟨Or.inl ⟨rfl, (tm (i := 718) (w := .code (mY 20) (mB 20) (mL 20) (mR 20)) rfl)⟩, tm (i := 44) (by decide +kernel), by decide +kernel, by decide +kernel, by decide +kernel, by decide +kernel⟩
set_option maxRecDepth 100000 in
theorem mw_21 : mOK 21 := ⟨Or.inl ⟨rfl, (tm (i := 865) (w := .code (mY 21) (mB 21) (mL 21) (mR 21)) rfl)⟩, tm (i := 44) (by decide +kernel), by decide +kernel, by decide +kernel, by decide +kernel, by decide +kernel⟩
set_option maxRecDepth 100000 in
theorem mw_22 : mOK 22 := ⟨Or.inl ⟨rfl, (tm (i := 86) (w := .code (mY 22) (mB 22) (mL 22) (mR 22)) rfl)⟩, tm (i := 45) (by decide +kernel), by decide +kernel, by decide +kernel, by decide +kernel, by decide +kernel⟩
set_option maxRecDepth 100000 in
theorem mw_23 : mOK 23 := ⟨Or.inl ⟨rfl, (tm (i := 186) (w := .code (mY 23) (mB 23) (mL 23) (mR 23)) rfl)⟩, tm (i := 45) (by decide +kernel), by decide +kernel, by decide +kernel, by decide +kernel, by decide +kernel⟩
set_option maxRecDepth 100000 in
theorem mw_24 : mOK 24 := ⟨Or.inl ⟨rfl, (tm (i := 190) (w := .code (mY 24) (mB 24) (mL 24) (mR 24)) rfl)⟩, tm (i := 45) (by decide +kernel), by decide +kernel, by decide +kernel, by decide +kernel, by decide +kernel⟩
set_option maxRecDepth 100000 in
theorem mw_25 : mOK 25 := ⟨Or.inl ⟨rfl, (tm (i := 194) (w := .code (mY 25) (mB 25) (mL 25) (mR 25)) rfl)⟩, tm (i := 45) (by decide +kernel), by decide +kernel, by decide +kernel, by decide +kernel, by decide +kernel⟩
set_option maxRecDepth 100000 in
theorem mw_26 : mOK 26 := ⟨Or.inl ⟨rfl, (tm (i := 198) (w := .code (mY 26) (mB 26) (mL 26) (mR 26)) rfl)⟩, tm (i := 45) (by decide +kernel), by decide +kernel, by decide +kernel, by decide +kernel, by decide +kernel⟩
set_option maxRecDepth 100000 in
theorem mw_27 : mOK 27 := ⟨Or.inl ⟨rfl, (tm (i := 202) (w := .code (mY 27) (mB 27) (mL 27) (mR 27)) rfl)⟩, tm (i := 45) (by decide +kernel), by decide +kernel, by decide +kernel, by decide +kernel, by decide +kernel⟩
set_option maxRecDepth 100000 in
theorem mw_28 : mOK 28 := ⟨Or.inl ⟨rfl, (tm (i := 276) (w := .code (mY 28) (mB 28) (mL 28) (mR 28)) rfl)⟩, tm (i := 45) (by decide +kernel), by decide +kernel, by decide +kernel, by decide +kernel, by decide +kernel⟩
set_option maxRecDepth 100000 in
theorem mw_29 : mOK 29 := ⟨Or.inl ⟨rfl, (tm (i := 280) (w := .code (mY 29) (mB 29) (mL 29) (mR 29)) rfl)⟩, tm (i := 45) (by decide +kernel), by decide +kernel, by decide +kernel, by decide +kernel, by decide +kernel⟩
set_option maxRecDepth 100000 in
theorem mw_30 : mOK 30 := ⟨Or.inl ⟨rfl, (tm (i := 292) (w := .code (mY 30) (mB 30) (mL 30) (mR 30)) rfl)⟩, tm (i := 45) (by decide +kernel), by decide +kernel, by decide +kernel, by decide +kernel, by decide +kernel⟩
set_option maxRecDepth 100000 in
theorem mw_31 : mOK 31 := ⟨Or.inl ⟨rfl, (tm (i := 296) (w := .code (mY 31) (mB 31) (mL 31) (mR 31)) rfl)⟩, tm (i := 45) (by decide +kernel), by decide +kernel, by decide +kernel, by decide +kernel, by decide +kernel⟩
set_option maxRecDepth 100000 in
theorem mw_32 : mOK 32 := ⟨Or.inl ⟨rfl, (tm (i := 300) (w := .code (mY 32) (mB 32) (mL 32) (mR 32)) rfl)⟩, tm (i := 45) (by decide +kernel), by decide +kernel, by decide +kernel, by decide +kernel, by decide +kernel⟩
set_option maxRecDepth 100000 in
theorem mw_33 : mOK 33 := ⟨Or.inl ⟨rfl, (tm (i := 723) (w := .code (mY 33) (mB 33) (mL 33) (mR 33)) rfl)⟩, tm (i := 65) (by decide +kernel), by decide +kernel, by decide +kernel, by decide +kernel, by decide +kernel⟩
set_option maxRecDepth 100000 in
theorem mw_34 : mOK 34 := ⟨Or.inl ⟨rfl, (tm (i := 871) (w := .code (mY 34) (mB 34) (mL 34) (mR 34)) rfl)⟩, tm (i := 65) (by decide +kernel), by decide +kernel, by decide +kernel, by decide +kernel, by decide +kernel⟩
set_option maxRecDepth 100000 in
theorem mw_35 : mOK 35 := ⟨Or.inl ⟨rfl, (tm (i := 938) (w := .code (mY 35) (mB 35) (mL 35) (mR 35)) rfl)⟩, tm (i := 65) (by decide +kernel), by decide +kernel, by decide +kernel, by decide +kernel, by decide +kernel⟩
set_option maxRecDepth 100000 in
theorem mw_36 : mOK 36 := ⟨Or.inl ⟨rfl, (tm (i := 847) (w := .code (mY 36) (mB 36) (mL 36) (mR 36)) rfl)⟩, tm (i := 71) (by decide +kernel), by decide +kernel, by decide +kernel, by decide +kernel, by decide +kernel⟩
set_option maxRecDepth 100000 in
theorem mw_37 : mOK 37 := ⟨Or.inl ⟨rfl, (tm (i := 874) (w := .code (mY 37) (mB 37) (mL 37) (mR 37)) rfl)⟩, tm (i := 71) (by decide +kernel), by decide +kernel, by decide +kernel, by decide +kernel, by decide +kernel⟩
set_option maxRecDepth 100000 in
theorem mw_38 : mOK 38 := ⟨Or.inl ⟨rfl, (tm (i := 818) (w := .code (mY 38) (mB 38) (mL 38) (mR 38)) rfl)⟩, tm (i := 69) (by decide +kernel), by decide +kernel, by decide +kernel, by decide +kernel, by decide +kernel⟩
set_option maxRecDepth 100000 in
theorem mw_39 : mOK 39 := ⟨Or.inl ⟨rfl, (tm (i := 877) (w := .code (mY 39) (mB 39) (mL 39) (mR 39)) rfl)⟩, tm (i := 69) (by decide +kernel), by decide +kernel, by decide +kernel, by decide +kernel, by decide +kernel⟩
set_option maxRecDepth 100000 in
theorem mw_40 : mOK 40 := ⟨Or.inl ⟨rfl, (tm (i := 775) (w := .code (mY 40) (mB 40) (mL 40) (mR 40)) rfl)⟩, tm (i := 67) (by decide +kernel), by decide +kernel, by decide +kernel, by decide +kernel, by decide +kernel⟩
set_option maxRecDepth 100000 in
theorem mw_41 : mOK 41 := ⟨Or.inl ⟨rfl, (tm (i := 880) (w := .code (mY 41) (mB 41) (mL 41) (mR 41)) rfl)⟩, tm (i := 67) (by decide +kernel), by decide +kernel, by decide +kernel, by decide +kernel, by decide +kernel⟩
set_option maxRecDepth 100000 in
theorem mw_42 : mOK 42 := ⟨Or.inl ⟨rfl, (tm (i := 117) (w := .code (mY 42) (mB 42) (mL 42) (mR 42)) rfl)⟩, tm (i := 46) (by decide +kernel), by decide +kernel, by decide +kernel, by decide +kernel, by decide +kernel⟩
set_option maxRecDepth 100000 in
theorem mw_43 : mOK 43 := ⟨Or.inl ⟨rfl, (tm (i := 895) (w := .code (mY 43) (mB 43) (mL 43) (mR 43)) rfl)⟩, tm (i := 46) (by decide +kernel), by decide +kernel, by decide +kernel, by decide +kernel, by decide +kernel⟩
set_option maxRecDepth 100000 in
theorem mw_44 : mOK 44 := ⟨Or.inl ⟨rfl, (tm (i := 376) (w := .code (mY 44) (mB 44) (mL 44) (mR 44)) rfl)⟩, tm (i := 55) (by decide +kernel), by decide +kernel, by decide +kernel, by decide +kernel, by decide +kernel⟩
set_option maxRecDepth 100000 in
theorem mw_45 : mOK 45 := ⟨Or.inl ⟨rfl, (tm (i := 494) (w := .code (mY 45) (mB 45) (mL 45) (mR 45)) rfl)⟩, tm (i := 55) (by decide +kernel), by decide +kernel, by decide +kernel, by decide +kernel, by decide +kernel⟩
set_option maxRecDepth 100000 in
theorem mw_46 : mOK 46 := ⟨Or.inl ⟨rfl, (tm (i := 498) (w := .code (mY 46) (mB 46) (mL 46) (mR 46)) rfl)⟩, tm (i := 55) (by decide +kernel), by decide +kernel, by decide +kernel, by decide +kernel, by decide +kernel⟩
set_option maxRecDepth 100000 in
theorem mw_47 : mOK 47 := ⟨Or.inl ⟨rfl, (tm (i := 521) (w := .code (mY 47) (mB 47) (mL 47) (mR 47)) rfl)⟩, tm (i := 55) (by decide +kernel), by decide +kernel, by decide +kernel, by decide +kernel, by decide +kernel⟩
set_option maxRecDepth 100000 in
theorem mw_48 : mOK 48 := ⟨Or.inl ⟨rfl, (tm (i := 528) (w := .code (mY 48) (mB 48) (mL 48) (mR 48)) rfl)⟩, tm (i := 55) (by decide +kernel), by decide +kernel, by decide +kernel, by decide +kernel, by decide +kernel⟩
set_option maxRecDepth 100000 in
theorem mw_49 : mOK 49 := ⟨Or.inl ⟨rfl, (tm (i := 620) (w := .code (mY 49) (mB 49) (mL 49) (mR 49)) rfl)⟩, tm (i := 55) (by decide +kernel), by decide +kernel, by decide +kernel, by decide +kernel, by decide +kernel⟩
set_option maxRecDepth 100000 in
theorem mw_50 : mOK 50 := ⟨Or.inl ⟨rfl, (tm (i := 761) (w := .code (mY 50) (mB 50) (mL 50) (mR 50)) rfl)⟩, tm (i := 66) (by decide +kernel), by decide +kernel, by decide +kernel, by decide +kernel, by decide +kernel⟩
set_option maxRecDepth 100000 in
theorem mw_51 : mOK 51 := ⟨Or.inl ⟨rfl, (tm (i := 884) (w := .code (mY 51) (mB 51) (mL 51) (mR 51)) rfl)⟩, tm (i := 66) (by decide +kernel), by decide +kernel, by decide +kernel, by decide +kernel, by decide +kernel⟩
set_option maxRecDepth 100000 in
theorem mw_52 : mOK 52 := ⟨Or.inl ⟨rfl, (tm (i := 553) (w := .code (mY 52) (mB 52) (mL 52) (mR 52)) rfl)⟩, tm (i := 59) (by decide +kernel), by decide +kernel, by decide +kernel, by decide +kernel, by decide +kernel⟩
set_option maxRecDepth 100000 in
theorem mw_53 : mOK 53 := ⟨Or.inl ⟨rfl, (tm (i := 805) (w := .code (mY 53) (mB 53) (mL 53) (mR 53)) rfl)⟩, tm (i := 68) (by decide +kernel), by decide +kernel, by decide +kernel, by decide +kernel, by decide +kernel⟩
set_option maxRecDepth 100000 in
theorem mw_54 : mOK 54 := ⟨Or.inl ⟨rfl, (tm (i := 887) (w := .code (mY 54) (mB 54) (mL 54) (mR 54)) rfl)⟩, tm (i := 68) (by decide +kernel), by decide +kernel, by decide +kernel, by decide +kernel, by decide +kernel⟩
set_option maxRecDepth 100000 in
theorem mw_55 : mOK 55 := ⟨Or.inl ⟨rfl, (tm (i := 667) (w := .code (mY 55) (mB 55) (mL 55) (mR 55)) rfl)⟩, tm (i := 63) (by decide +kernel), by decide +kernel, by decide +kernel, by decide +kernel, by decide +kernel⟩
set_option maxRecDepth 100000 in
theorem mw_56 : mOK 56 := ⟨Or.inl ⟨rfl, (tm (i := 890) (w := .code (mY 56) (mB 56) (mL 56) (mR 56)) rfl)⟩, tm (i := 63) (by decide +kernel), by decide +kernel, by decide +kernel, by decide +kernel, by decide +kernel⟩
set_option maxRecDepth 100000 in
theorem mw_57 : mOK 57 := ⟨Or.inl ⟨rfl, (tm (i := 284) (w := .code (mY 57) (mB 57) (mL 57) (mR 57)) rfl)⟩, tm (i := 53) (by decide +kernel), by decide +kernel, by decide +kernel, by decide +kernel, by decide +kernel⟩
set_option maxRecDepth 100000 in
theorem mw_58 : mOK 58 := ⟨Or.inl ⟨rfl, (tm (i := 288) (w := .code (mY 58) (mB 58) (mL 58) (mR 58)) rfl)⟩, tm (i := 53) (by decide +kernel), by decide +kernel, by decide +kernel, by decide +kernel, by decide +kernel⟩
set_option maxRecDepth 100000 in
theorem mw_59 : mOK 59 := ⟨Or.inl ⟨rfl, (tm (i := 363) (w := .code (mY 59) (mB 59) (mL 59) (mR 59)) rfl)⟩, tm (i := 53) (by decide +kernel), by decide +kernel, by decide +kernel, by decide +kernel, by decide +kernel⟩
set_option maxRecDepth 100000 in
theorem mw_60 : mOK 60 := ⟨Or.inl ⟨rfl, (tm (i := 464) (w := .code (mY 60) (mB 60) (mL 60) (mR 60)) rfl)⟩, tm (i := 53) (by decide +kernel), by decide +kernel, by decide +kernel, by decide +kernel, by decide +kernel⟩
set_option maxRecDepth 100000 in
theorem mw_61 : mOK 61 := ⟨Or.inl ⟨rfl, (tm (i := 505) (w := .code (mY 61) (mB 61) (mL 61) (mR 61)) rfl)⟩, tm (i := 53) (by decide +kernel), by decide +kernel, by decide +kernel, by decide +kernel, by decide +kernel⟩
set_option maxRecDepth 100000 in
theorem mw_62 : mOK 62 := ⟨Or.inl ⟨rfl, (tm (i := 508) (w := .code (mY 62) (mB 62) (mL 62) (mR 62)) rfl)⟩, tm (i := 53) (by decide +kernel), by decide +kernel, by decide +kernel, by decide +kernel, by decide +kernel⟩
set_option maxRecDepth 100000 in
theorem mw_63 : mOK 63 := ⟨Or.inl ⟨rfl, (tm (i := 540) (w := .code (mY 63) (mB 63) (mL 63) (mR 63)) rfl)⟩, tm (i := 53) (by decide +kernel), by decide +kernel, by decide +kernel, by decide +kernel, by decide +kernel⟩
set_option maxRecDepth 100000 in
theorem mw_64 : mOK 64 := ⟨Or.inl ⟨rfl, (tm (i := 569) (w := .code (mY 64) (mB 64) (mL 64) (mR 64)) rfl)⟩, tm (i := 53) (by decide +kernel), by decide +kernel, by decide +kernel, by decide +kernel, by decide +kernel⟩
set_option maxRecDepth 100000 in
theorem mw_65 : mOK 65 := ⟨Or.inl ⟨rfl, (tm (i := 600) (w := .code (mY 65) (mB 65) (mL 65) (mR 65)) rfl)⟩, tm (i := 53) (by decide +kernel), by decide +kernel, by decide +kernel, by decide +kernel, by decide +kernel⟩
set_option maxRecDepth 100000 in
theorem mw_66 : mOK 66 := ⟨Or.inl ⟨rfl, (tm (i := 645) (w := .code (mY 66) (mB 66) (mL 66) (mR 66)) rfl)⟩, tm (i := 53) (by decide +kernel), by decide +kernel, by decide +kernel, by decide +kernel, by decide +kernel⟩
set_option maxRecDepth 100000 in
theorem mw_67 : mOK 67 := ⟨Or.inl ⟨rfl, (tm (i := 831) (w := .code (mY 67) (mB 67) (mL 67) (mR 67)) rfl)⟩, tm (i := 70) (by decide +kernel), by decide +kernel, by decide +kernel, by decide +kernel, by decide +kernel⟩
set_option maxRecDepth 100000 in
theorem mw_68 : mOK 68 := ⟨Or.inl ⟨rfl, (tm (i := 907) (w := .code (mY 68) (mB 68) (mL 68) (mR 68)) rfl)⟩, tm (i := 70) (by decide +kernel), by decide +kernel, by decide +kernel, by decide +kernel, by decide +kernel⟩
set_option maxRecDepth 100000 in
theorem mw_69 : mOK 69 := ⟨Or.inl ⟨rfl, (tm (i := 370) (w := .code (mY 69) (mB 69) (mL 69) (mR 69)) rfl)⟩, tm (i := 54) (by decide +kernel), by decide +kernel, by decide +kernel, by decide +kernel, by decide +kernel⟩
set_option maxRecDepth 100000 in
theorem mw_70 : mOK 70 := ⟨Or.inl ⟨rfl, (tm (i := 490) (w := .code (mY 70) (mB 70) (mL 70) (mR 70)) rfl)⟩, tm (i := 54) (by decide +kernel), by decide +kernel, by decide +kernel, by decide +kernel, by decide +kernel⟩
set_option maxRecDepth 100000 in
theorem mw_71 : mOK 71 := ⟨Or.inl ⟨rfl, (tm (i := 513) (w := .code (mY 71) (mB 71) (mL 71) (mR 71)) rfl)⟩, tm (i := 54) (by decide +kernel), by decide +kernel, by decide +kernel, by decide +kernel, by decide +kernel⟩
set_option maxRecDepth 100000 in
theorem mw_72 : mOK 72 := ⟨Or.inl ⟨rfl, (tm (i := 516) (w := .code (mY 72) (mB 72) (mL 72) (mR 72)) rfl)⟩, tm (i := 54) (by decide +kernel), by decide +kernel, by decide +kernel, by decide +kernel, by decide +kernel⟩
set_option maxRecDepth 100000 in
theorem mw_73 : mOK 73 := ⟨Or.inl ⟨rfl, (tm (i := 524) (w := .code (mY 73) (mB 73) (mL 73) (mR 73)) rfl)⟩, tm (i := 54) (by decide +kernel), by decide +kernel, by decide +kernel, by decide +kernel, by decide +kernel⟩
set_option maxRecDepth 100000 in
theorem mw_74 : mOK 74 := ⟨Or.inl ⟨rfl, (tm (i := 544) (w := .code (mY 74) (mB 74) (mL 74) (mR 74)) rfl)⟩, tm (i := 54) (by decide +kernel), by decide +kernel, by decide +kernel, by decide +kernel, by decide +kernel⟩
set_option maxRecDepth 100000 in
theorem mw_75 : mOK 75 := ⟨Or.inl ⟨rfl, (tm (i := 604) (w := .code (mY 75) (mB 75) (mL 75) (mR 75)) rfl)⟩, tm (i := 54) (by decide +kernel), by decide +kernel, by decide +kernel, by decide +kernel, by decide +kernel⟩
set_option maxRecDepth 100000 in
theorem mw_76 : mOK 76 := ⟨Or.inl ⟨rfl, (tm (i := 607) (w := .code (mY 76) (mB 76) (mL 76) (mR 76)) rfl)⟩, tm (i := 54) (by decide +kernel), by decide +kernel, by decide +kernel, by decide +kernel, by decide +kernel⟩
set_option maxRecDepth 100000 in
theorem mw_77 : mOK 77 := ⟨Or.inl ⟨rfl, (tm (i := 610) (w := .code (mY 77) (mB 77) (mL 77) (mR 77)) rfl)⟩, tm (i := 54) (by decide +kernel), by decide +kernel, by decide +kernel, by decide +kernel, by decide +kernel⟩
set_option maxRecDepth 100000 in
theorem mw_78 : mOK 78 := ⟨Or.inl ⟨rfl, (tm (i := 613) (w := .code (mY 78) (mB 78) (mL 78) (mR 78)) rfl)⟩, tm (i := 54) (by decide +kernel), by decide +kernel, by decide +kernel, by decide +kernel, by decide +kernel⟩
set_option maxRecDepth 100000 in
theorem mw_79 : mOK 79 := ⟨Or.inl ⟨rfl, (tm (i := 616) (w := .code (mY 79) (mB 79) (mL 79) (mR 79)) rfl)⟩, tm (i := 54) (by decide +kernel), by decide +kernel, by decide +kernel, by decide +kernel, by decide +kernel⟩
set_option maxRecDepth 100000 in
theorem mw_80 : mOK 80 := ⟨Or.inl ⟨rfl, (tm (i := 624) (w := .code (mY 80) (mB 80) (mL 80) (mR 80)) rfl)⟩, tm (i := 54) (by decide +kernel), by decide +kernel, by decide +kernel, by decide +kernel, by decide +kernel⟩
set_option maxRecDepth 100000 in
theorem mw_81 : mOK 81 := ⟨Or.inl ⟨rfl, (tm (i := 469) (w := .code (mY 81) (mB 81) (mL 81) (mR 81)) rfl)⟩, tm (i := 57) (by decide +kernel), by decide +kernel, by decide +kernel, by decide +kernel, by decide +kernel⟩
set_option maxRecDepth 100000 in
theorem mw_82 : mOK 82 := ⟨Or.inl ⟨rfl, (tm (i := 486) (w := .code (mY 82) (mB 82) (mL 82) (mR 82)) rfl)⟩, tm (i := 57) (by decide +kernel), by decide +kernel, by decide +kernel, by decide +kernel, by decide +kernel⟩
set_option maxRecDepth 100000 in
theorem mw_83 : mOK 83 := ⟨Or.inl ⟨rfl, (tm (i := 502) (w := .code (mY 83) (mB 83) (mL 83) (mR 83)) rfl)⟩, tm (i := 57) (by decide +kernel), by decide +kernel, by decide +kernel, by decide +kernel, by decide +kernel⟩
set_option maxRecDepth 100000 in
theorem mw_84 : mOK 84 := ⟨Or.inl ⟨rfl, (tm (i := 956) (w := .code (mY 84) (mB 84) (mL 84) (mR 84)) rfl)⟩, tm (i := 47) (by decide +kernel), by decide +kernel, by decide +kernel, by decide +kernel, by decide +kernel⟩
set_option maxRecDepth 100000 in
theorem mw_85 : mOK 85 := ⟨Or.inl ⟨rfl, (tm (i := 1059) (w := .code (mY 85) (mB 85) (mL 85) (mR 85)) rfl)⟩, tm (i := 47) (by decide +kernel), by decide +kernel, by decide +kernel, by decide +kernel, by decide +kernel⟩
set_option maxRecDepth 100000 in
theorem mw_86 : mOK 86 := ⟨Or.inl ⟨rfl, (tm (i := 1063) (w := .code (mY 86) (mB 86) (mL 86) (mR 86)) rfl)⟩, tm (i := 47) (by decide +kernel), by decide +kernel, by decide +kernel, by decide +kernel, by decide +kernel⟩
set_option maxRecDepth 100000 in
theorem mw_87 : mOK 87 := ⟨Or.inl ⟨rfl, (tm (i := 1067) (w := .code (mY 87) (mB 87) (mL 87) (mR 87)) rfl)⟩, tm (i := 47) (by decide +kernel), by decide +kernel, by decide +kernel, by decide +kernel, by decide +kernel⟩
set_option maxRecDepth 100000 in
theorem mw_88 : mOK 88 := ⟨Or.inl ⟨rfl, (tm (i := 1071) (w := .code (mY 88) (mB 88) (mL 88) (mR 88)) rfl)⟩, tm (i := 47) (by decide +kernel), by decide +kernel, by decide +kernel, by decide +kernel, by decide +kernel⟩
set_option maxRecDepth 100000 in
theorem mw_89 : mOK 89 := ⟨Or.inl ⟨rfl, (tm (i := 1075) (w := .code (mY 89) (mB 89) (mL 89) (mR 89)) rfl)⟩, tm (i := 47) (by decide +kernel), by decide +kernel, by decide +kernel, by decide +kernel, by decide +kernel⟩
set_option maxRecDepth 100000 in
theorem mw_90 : mOK 90 := ⟨Or.inl ⟨rfl, (tm (i := 1079) (w := .code (mY 90) (mB 90) (mL 90) (mR 90)) rfl)⟩, tm (i := 47) (by decide +kernel), by decide +kernel, by decide +kernel, by decide +kernel, by decide +kernel⟩
set_option maxRecDepth 100000 in
theorem mw_91 : mOK 91 := ⟨Or.inl ⟨rfl, (tm (i := 1083) (w := .code (mY 91) (mB 91) (mL 91) (mR 91)) rfl)⟩, tm (i := 47) (by decide +kernel), by decide +kernel, by decide +kernel, by decide +kernel, by decide +kernel⟩
set_option maxRecDepth 100000 in
theorem mw_92 : mOK 92 := ⟨Or.inl ⟨rfl, (tm (i := 1087) (w := .code (mY 92) (mB 92) (mL 92) (mR 92)) rfl)⟩, tm (i := 47) (by decide +kernel), by decide +kernel, by decide +kernel, by decide +kernel, by decide +kernel⟩
set_option maxRecDepth 100000 in
theorem mw_93 : mOK 93 := ⟨Or.inl ⟨rfl, (tm (i := 1091) (w := .code (mY 93) (mB 93) (mL 93) (mR 93)) rfl)⟩, tm (i := 47) (by decide +kernel), by decide +kernel, by decide +kernel, by decide +kernel, by decide +kernel⟩
set_option maxRecDepth 100000 in
theorem mw_94 : mOK 94 := ⟨Or.inl ⟨rfl, (tm (i := 1095) (w := .code (mY 94) (mB 94) (mL 94) (mR 94)) rfl)⟩, tm (i := 47) (by decide +kernel), by decide +kernel, by decide +kernel, by decide +kernel, by decide +kernel⟩
set_option maxRecDepth 100000 in
theorem mw_95 : mOK 95 := ⟨Or.inl ⟨rfl, (tm (i := 1099) (w := .code (mY 95) (mB 95) (mL 95) (mR 95)) rfl)⟩, tm (i := 47) (by decide +kernel), by decide +kernel, by decide +kernel, by decide +kernel, by decide +kernel⟩
set_option maxRecDepth 100000 in
theorem mw_96 : mOK 96 := ⟨Or.inl ⟨rfl, (tm (i := 1103) (w := .code (mY 96) (mB 96) (mL 96) (mR 96)) rfl)⟩, tm (i := 47) (by decide +kernel), by decide +kernel, by decide +kernel, by decide +kernel, by decide +kernel⟩
set_option maxRecDepth 100000 in
theorem mw_97 : mOK 97 := ⟨Or.inl ⟨rfl, (tm (i := 1107) (w := .code (mY 97) (mB 97) (mL 97) (mR 97)) rfl)⟩, tm (i := 47) (by decide +kernel), by decide +kernel, by decide +kernel, by decide +kernel, by decide +kernel⟩
set_option maxRecDepth 100000 in
theorem mw_98 : mOK 98 := ⟨Or.inl ⟨rfl, (tm (i := 1111) (w := .code (mY 98) (mB 98) (mL 98) (mR 98)) rfl)⟩, tm (i := 47) (by decide +kernel), by decide +kernel, by decide +kernel, by decide +kernel, by decide +kernel⟩
set_option maxRecDepth 100000 in
theorem mw_99 : mOK 99 := ⟨Or.inl ⟨rfl, (tm (i := 1115) (w := .code (mY 99) (mB 99) (mL 99) (mR 99)) rfl)⟩, tm (i := 47) (by decide +kernel), by decide +kernel, by decide +kernel, by decide +kernel, by decide +kernel⟩
set_option maxRecDepth 100000 in
theorem mw_100 : mOK 100 := ⟨Or.inl ⟨rfl, (tm (i := 1119) (w := .code (mY 100) (mB 100) (mL 100) (mR 100)) rfl)⟩, tm (i := 47) (by decide +kernel), by decide +kernel, by decide +kernel, by decide +kernel, by decide +kernel⟩
set_option maxRecDepth 100000 in
theorem mw_101 : mOK 101 := ⟨Or.inl ⟨rfl, (tm (i := 1123) (w := .code (mY 101) (mB 101) (mL 101) (mR 101)) rfl)⟩, tm (i := 47) (by decide +kernel), by decide +kernel, by decide +kernel, by decide +kernel, by decide +kernel⟩
set_option maxRecDepth 100000 in
theorem mw_102 : mOK 102 := ⟨Or.inl ⟨rfl, (tm (i := 1127) (w := .code (mY 102) (mB 102) (mL 102) (mR 102)) rfl)⟩, tm (i := 47) (by decide +kernel), by decide +kernel, by decide +kernel, by decide +kernel, by decide +kernel⟩
set_option maxRecDepth 100000 in
theorem mw_103 : mOK 103 := ⟨Or.inl ⟨rfl, (tm (i := 1131) (w := .code (mY 103) (mB 103) (mL 103) (mR 103)) rfl)⟩, tm (i := 47) (by decide +kernel), by decide +kernel, by decide +kernel, by decide +kernel, by decide +kernel⟩
set_option maxRecDepth 100000 in
theorem mw_104 : mOK 104 := ⟨Or.inl ⟨rfl, (tm (i := 1135) (w := .code (mY 104) (mB 104) (mL 104) (mR 104)) rfl)⟩, tm (i := 47) (by decide +kernel), by decide +kernel, by decide +kernel, by decide +kernel, by decide +kernel⟩
set_option maxRecDepth 100000 in
theorem mw_105 : mOK 105 := ⟨Or.inl ⟨rfl, (tm (i := 1139) (w := .code (mY 105) (mB 105) (mL 105) (mR 105)) rfl)⟩, tm (i := 47) (by decide +kernel), by decide +kernel, by decide +kernel, by decide +kernel, by decide +kernel⟩
set_option maxRecDepth 100000 in
theorem mw_106 : mOK 106 := ⟨Or.inl ⟨rfl, (tm (i := 1143) (w := .code (mY 106) (mB 106) (mL 106) (mR 106)) rfl)⟩, tm (i := 47) (by decide +kernel), by decide +kernel, by decide +kernel, by decide +kernel, by decide +kernel⟩
set_option maxRecDepth 100000 in
theorem mw_107 : mOK 107 := ⟨Or.inl ⟨rfl, (tm (i := 1147) (w := .code (mY 107) (mB 107) (mL 107) (mR 107)) rfl)⟩, tm (i := 47) (by decide +kernel), by decide +kernel, by decide +kernel, by decide +kernel, by decide +kernel⟩
set_option maxRecDepth 100000 in
theorem mw_108 : mOK 108 := ⟨Or.inl ⟨rfl, (tm (i := 1151) (w := .code (mY 108) (mB 108) (mL 108) (mR 108)) rfl)⟩, tm (i := 47) (by decide +kernel), by decide +kernel, by decide +kernel, by decide +kernel, by decide +kernel⟩
set_option maxRecDepth 100000 in
theorem mw_109 : mOK 109 := ⟨Or.inl ⟨rfl, (tm (i := 1155) (w := .code (mY 109) (mB 109) (mL 109) (mR 109)) rfl)⟩, tm (i := 47) (by decide +kernel), by decide +kernel, by decide +kernel, by decide +kernel, by decide +kernel⟩
set_option maxRecDepth 100000 in
theorem mw_110 : mOK 110 := ⟨Or.inl ⟨rfl, (tm (i := 1159) (w := .code (mY 110) (mB 110) (mL 110) (mR 110)) rfl)⟩, tm (i := 47) (by decide +kernel), by decide +kernel, by decide +kernel, by decide +kernel, by decide +kernel⟩
set_option maxRecDepth 100000 in
theorem mw_111 : mOK 111 := ⟨Or.inl ⟨rfl, (tm (i := 1163) (w := .code (mY 111) (mB 111) (mL 111) (mR 111)) rfl)⟩, tm (i := 47) (by decide +kernel), by decide +kernel, by decide +kernel, by decide +kernel, by decide +kernel⟩
set_option maxRecDepth 100000 in
theorem mw_112 : mOK 112 := ⟨Or.inl ⟨rfl, (tm (i := 1167) (w := .code (mY 112) (mB 112) (mL 112) (mR 112)) rfl)⟩, tm (i := 47) (by decide +kernel), by decide +kernel, by decide +kernel, by decide +kernel, by decide +kernel⟩
set_option maxRecDepth 100000 in
theorem mw_113 : mOK 113 := ⟨Or.inl ⟨rfl, (tm (i := 1171) (w := .code (mY 113) (mB 113) (mL 113) (mR 113)) rfl)⟩, tm (i := 47) (by decide +kernel), by decide +kernel, by decide +kernel, by decide +kernel, by decide +kernel⟩
set_option maxRecDepth 100000 in
theorem mw_114 : mOK 114 := ⟨Or.inl ⟨rfl, (tm (i := 1175) (w := .code (mY 114) (mB 114) (mL 114) (mR 114)) rfl)⟩, tm (i := 47) (by decide +kernel), by decide +kernel, by decide +kernel, by decide +kernel, by decide +kernel⟩
set_option maxRecDepth 100000 in
theorem mw_115 : mOK 115 := ⟨Or.inl ⟨rfl, (tm (i := 1179) (w := .code (mY 115) (mB 115) (mL 115) (mR 115)) rfl)⟩, tm (i := 47) (by decide +kernel), by decide +kernel, by decide +kernel, by decide +kernel, by decide +kernel⟩
set_option maxRecDepth 100000 in
theorem mw_116 : mOK 116 := ⟨Or.inl ⟨rfl, (tm (i := 1183) (w := .code (mY 116) (mB 116) (mL 116) (mR 116)) rfl)⟩, tm (i := 47) (by decide +kernel), by decide +kernel, by decide +kernel, by decide +kernel, by decide +kernel⟩
set_option maxRecDepth 100000 in
theorem mw_117 : mOK 117 := ⟨Or.inl ⟨rfl, (tm (i := 1187) (w := .code (mY 117) (mB 117) (mL 117) (mR 117)) rfl)⟩, tm (i := 47) (by decide +kernel), by decide +kernel, by decide +kernel, by decide +kernel, by decide +kernel⟩
set_option maxRecDepth 100000 in
theorem mw_118 : mOK 118 := ⟨Or.inl ⟨rfl, (tm (i := 1191) (w := .code (mY 118) (mB 118) (mL 118) (mR 118)) rfl)⟩, tm (i := 47) (by decide +kernel), by decide +kernel, by decide +kernel, by decide +kernel, by decide +kernel⟩
set_option maxRecDepth 100000 in
theorem mw_119 : mOK 119 := ⟨Or.inl ⟨rfl, (tm (i := 1195) (w := .code (mY 119) (mB 119) (mL 119) (mR 119)) rfl)⟩, tm (i := 47) (by decide +kernel), by decide +kernel, by decide +kernel, by decide +kernel, by decide +kernel⟩
set_option maxRecDepth 100000 in
theorem mw_120 : mOK 120 := ⟨Or.inl ⟨rfl, (tm (i := 1199) (w := .code (mY 120) (mB 120) (mL 120) (mR 120)) rfl)⟩, tm (i := 47) (by decide +kernel), by decide +kernel, by decide +kernel, by decide +kernel, by decide +kernel⟩
set_option maxRecDepth 100000 in
theorem mw_121 : mOK 121 := ⟨Or.inl ⟨rfl, (tm (i := 1202) (w := .code (mY 121) (mB 121) (mL 121) (mR 121)) rfl)⟩, tm (i := 47) (by decide +kernel), by decide +kernel, by decide +kernel, by decide +kernel, by decide +kernel⟩
set_option maxRecDepth 100000 in
theorem mw_122 : mOK 122 := ⟨Or.inl ⟨rfl, (tm (i := 1206) (w := .code (mY 122) (mB 122) (mL 122) (mR 122)) rfl)⟩, tm (i := 47) (by decide +kernel), by decide +kernel, by decide +kernel, by decide +kernel, by decide +kernel⟩
set_option maxRecDepth 100000 in
theorem mw_123 : mOK 123 := ⟨Or.inl ⟨rfl, (tm (i := 1210) (w := .code (mY 123) (mB 123) (mL 123) (mR 123)) rfl)⟩, tm (i := 47) (by decide +kernel), by decide +kernel, by decide +kernel, by decide +kernel, by decide +kernel⟩
set_option maxRecDepth 100000 in
theorem mw_124 : mOK 124 := ⟨Or.inl ⟨rfl, (tm (i := 1214) (w := .code (mY 124) (mB 124) (mL 124) (mR 124)) rfl)⟩, tm (i := 47) (by decide +kernel), by decide +kernel, by decide +kernel, by decide +kernel, by decide +kernel⟩
set_option maxRecDepth 100000 in
theorem mw_125 : mOK 125 := ⟨Or.inl ⟨rfl, (tm (i := 1218) (w := .code (mY 125) (mB 125) (mL 125) (mR 125)) rfl)⟩, tm (i := 47) (by decide +kernel), by decide +kernel, by decide +kernel, by decide +kernel, by decide +kernel⟩
set_option maxRecDepth 100000 in
theorem mw_126 : mOK 126 := ⟨Or.inl ⟨rfl, (tm (i := 1222) (w := .code (mY 126) (mB 126) (mL 126) (mR 126)) rfl)⟩, tm (i := 47) (by decide +kernel), by decide +kernel, by decide +kernel, by decide +kernel, by decide +kernel⟩
set_option maxRecDepth 100000 in
theorem mw_127 : mOK 127 := ⟨Or.inl ⟨rfl, (tm (i := 1226) (w := .code (mY 127) (mB 127) (mL 127) (mR 127)) rfl)⟩, tm (i := 47) (by decide +kernel), by decide +kernel, by decide +kernel, by decide +kernel, by decide +kernel⟩
set_option maxRecDepth 100000 in
theorem mw_128 : mOK 128 := ⟨Or.inl ⟨rfl, (tm (i := 1230) (w := .code (mY 128) (mB 128) (mL 128) (mR 128)) rfl)⟩, tm (i := 47) (by decide +kernel), by decide +kernel, by decide +kernel, by decide +kernel, by decide +kernel⟩
set_option maxRecDepth 100000 in
theorem mw_129 : mOK 129 := ⟨Or.inl ⟨rfl, (tm (i := 1234) (w := .code (mY 129) (mB 129) (mL 129) (mR 129)) rfl)⟩, tm (i := 47) (by decide +kernel), by decide +kernel, by decide +kernel, by decide +kernel, by decide +kernel⟩
set_option maxRecDepth 100000 in
theorem mw_130 : mOK 130 := ⟨Or.inl ⟨rfl, (tm (i := 1238) (w := .code (mY 130) (mB 130) (mL 130) (mR 130)) rfl)⟩, tm (i := 47) (by decide +kernel), by decide +kernel, by decide +kernel, by decide +kernel, by decide +kernel⟩
set_option maxRecDepth 100000 in
theorem mw_131 : mOK 131 := ⟨Or.inl ⟨rfl, (tm (i := 670) (w := .code (mY 131) (mB 131) (mL 131) (mR 131)) rfl)⟩, tm (i := 62) (by decide +kernel), by decide +kernel, by decide +kernel, by decide +kernel, by decide +kernel⟩
set_option maxRecDepth 100000 in
theorem mw_132 : mOK 132 := ⟨Or.inl ⟨rfl, (tm (i := 904) (w := .code (mY 132) (mB 132) (mL 132) (mR 132)) rfl)⟩, tm (i := 62) (by decide +kernel), by decide +kernel, by decide +kernel, by decide +kernel, by decide +kernel⟩
set_option maxRecDepth 100000 in
theorem mw_133 : mOK 133 := ⟨Or.inl ⟨rfl, (tm (i := 726) (w := .code (mY 133) (mB 133) (mL 133) (mR 133)) rfl)⟩, tm (i := 64) (by decide +kernel), by decide +kernel, by decide +kernel, by decide +kernel, by decide +kernel⟩
set_option maxRecDepth 100000 in
theorem mw_134 : mOK 134 := ⟨Or.inl ⟨rfl, (tm (i := 914) (w := .code (mY 134) (mB 134) (mL 134) (mR 134)) rfl)⟩, tm (i := 64) (by decide +kernel), by decide +kernel, by decide +kernel, by decide +kernel, by decide +kernel⟩
set_option maxRecDepth 100000 in
theorem mw_135 : mOK 135 := ⟨Or.inr (tm (i := 321) (w := .codeWith (mY 135) (mB 135) (mL 135) (mR 135) (mX 135)) rfl), tm (i := 43) (by decide +kernel), by decide +kernel, by decide +kernel, by decide +kernel, by decide +kernel⟩
set_option maxRecDepth 100000 in
theorem mw_136 : mOK 136 := ⟨Or.inr (tm (i := 432) (w := .codeWith (mY 136) (mB 136) (mL 136) (mR 136) (mX 136)) rfl), tm (i := 43) (by decide +kernel), by decide +kernel, by decide +kernel, by decide +kernel, by decide +kernel⟩
set_option maxRecDepth 100000 in
theorem mw_137 : mOK 137 := ⟨Or.inr (tm (i := 531) (w := .codeWith (mY 137) (mB 137) (mL 137) (mR 137) (mX 137)) rfl), tm (i := 43) (by decide +kernel), by decide +kernel, by decide +kernel, by decide +kernel, by decide +kernel⟩
set_option maxRecDepth 100000 in
theorem mw_138 : mOK 138 := ⟨Or.inr (tm (i := 572) (w := .codeWith (mY 138) (mB 138) (mL 138) (mR 138) (mX 138)) rfl), tm (i := 43) (by decide +kernel), by decide +kernel, by decide +kernel, by decide +kernel, by decide +kernel⟩
set_option maxRecDepth 100000 in
theorem mw_139 : mOK 139 := ⟨Or.inr (tm (i := 627) (w := .codeWith (mY 139) (mB 139) (mL 139) (mR 139) (mX 139)) rfl), tm (i := 43) (by decide +kernel), by decide +kernel, by decide +kernel, by decide +kernel, by decide +kernel⟩
set_option maxRecDepth 100000 in
theorem mw_140 : mOK 140 := ⟨Or.inr (tm (i := 634) (w := .codeWith (mY 140) (mB 140) (mL 140) (mR 140) (mX 140)) rfl), tm (i := 43) (by decide +kernel), by decide +kernel, by decide +kernel, by decide +kernel, by decide +kernel⟩
set_option maxRecDepth 100000 in
theorem mw_141 : mOK 141 := ⟨Or.inr (tm (i := 652) (w := .codeWith (mY 141) (mB 141) (mL 141) (mR 141) (mX 141)) rfl), tm (i := 43) (by decide +kernel), by decide +kernel, by decide +kernel, by decide +kernel, by decide +kernel⟩
theorem st_m (M : Nat) (h : M < 142) : mOK M := by
  match M, h with
  | 0, _ => exact mw_0
  | 1, _ => exact mw_1
  | 2, _ => exact mw_2
  | 3, _ => exact mw_3
  | 4, _ => exact mw_4
  | 5, _ => exact mw_5
  | 6, _ => exact mw_6
  | 7, _ => exact mw_7
  | 8, _ => exact mw_8
  | 9, _ => exact mw_9
  | 10, _ => exact mw_10
  | 11, _ => exact mw_11
  | 12, _ => exact mw_12
  | 13, _ => exact mw_13
  | 14, _ => exact mw_14
  | 15, _ => exact mw_15
  | 16, _ => exact mw_16
  | 17, _ => exact mw_17
  | 18, _ => exact mw_18
  | 19, _ => exact mw_19
  | 20, _ => exact mw_20
  | 21, _ => exact mw_21
  | 22, _ => exact mw_22
  | 23, _ => exact mw_23
  | 24, _ => exact mw_24
  | 25, _ => exact mw_25
  | 26, _ => exact mw_26
  | 27, _ => exact mw_27
  | 28, _ => exact mw_28
  | 29, _ => exact mw_29
  | 30, _ => exact mw_30
  | 31, _ => exact mw_31
  | 32, _ => exact mw_32
  | 33, _ => exact mw_33
  | 34, _ => exact mw_34
  | 35, _ => exact mw_35
  | 36, _ => exact mw_36
  | 37, _ => exact mw_37
  | 38, _ => exact mw_38
  | 39, _ => exact mw_39
  | 40, _ => exact mw_40
  | 41, _ => exact mw_41
  | 42, _ => exact mw_42
  | 43, _ => exact mw_43
  | 44, _ => exact mw_44
  | 45, _ => exact mw_45
  | 46, _ => exact mw_46
  | 47, _ => exact mw_47
  | 48, _ => exact mw_48
  | 49, _ => exact mw_49
  | 50, _ => exact mw_50
  | 51, _ => exact mw_51
  | 52, _ => exact mw_52
  | 53, _ => exact mw_53
  | 54, _ => exact mw_54
  | 55, _ => exact mw_55
  | 56, _ => exact mw_56
  | 57, _ => exact mw_57
  | 58, _ => exact mw_58
  | 59, _ => exact mw_59
  | 60, _ => exact mw_60
  | 61, _ => exact mw_61
  | 62, _ => exact mw_62
  | 63, _ => exact mw_63
  | 64, _ => exact mw_64
  | 65, _ => exact mw_65
  | 66, _ => exact mw_66
  | 67, _ => exact mw_67
  | 68, _ => exact mw_68
  | 69, _ => exact mw_69
  | 70, _ => exact mw_70
  | 71, _ => exact mw_71
  | 72, _ => exact mw_72
  | 73, _ => exact mw_73
  | 74, _ => exact mw_74
  | 75, _ => exact mw_75
  | 76, _ => exact mw_76
  | 77, _ => exact mw_77
  | 78, _ => exact mw_78
  | 79, _ => exact mw_79
  | 80, _ => exact mw_80
  | 81, _ => exact mw_81
  | 82, _ => exact mw_82
  | 83, _ => exact mw_83
  | 84, _ => exact mw_84
  | 85, _ => exact mw_85
  | 86, _ => exact mw_86
  | 87, _ => exact mw_87
  | 88, _ => exact mw_88
  | 89, _ => exact mw_89
  | 90, _ => exact mw_90
  | 91, _ => exact mw_91
  | 92, _ => exact mw_92
  | 93, _ => exact mw_93
  | 94, _ => exact mw_94
  | 95, _ => exact mw_95
  | 96, _ => exact mw_96
  | 97, _ => exact mw_97
  | 98, _ => exact mw_98
  | 99, _ => exact mw_99
  | 100, _ => exact mw_100
  | 101, _ => exact mw_101
  | 102, _ => exact mw_102
  | 103, _ => exact mw_103
  | 104, _ => exact mw_104
  | 105, _ => exact mw_105
  | 106, _ => exact mw_106
  | 107, _ => exact mw_107
  | 108, _ => exact mw_108
  | 109, _ => exact mw_109
  | 110, _ => exact mw_110
  | 111, _ => exact mw_111
  | 112, _ => exact mw_112
  | 113, _ => exact mw_113
  | 114, _ => exact mw_114
  | 115, _ => exact mw_115
  | 116, _ => exact mw_116
  | 117, _ => exact mw_117
  | 118, _ => exact mw_118
  | 119, _ => exact mw_119
  | 120, _ => exact mw_120
  | 121, _ => exact mw_121
  | 122, _ => exact mw_122
  | 123, _ => exact mw_123
  | 124, _ => exact mw_124
  | 125, _ => exact mw_125
  | 126, _ => exact mw_126
  | 127, _ => exact mw_127
  | 128, _ => exact mw_128
  | 129, _ => exact mw_129
  | 130, _ => exact mw_130
  | 131, _ => exact mw_131
  | 132, _ => exact mw_132
  | 133, _ => exact mw_133
  | 134, _ => exact mw_134
  | 135, _ => exact mw_135
  | 136, _ => exact mw_136
  | 137, _ => exact mw_137
  | 138, _ => exact mw_138
  | 139, _ => exact mw_139
  | 140, _ => exact mw_140
  | 141, _ => exact mw_141
  | n + 142, h => exact absurd h (by omega)
theorem st_30 : ∀ M, mL M ≤ 30 := by
  intro M
  rcases Nat.lt_or_ge M 143 with q | q
  · have : ∀ M, M < 143 → mL M ≤ 30 := by decide +kernel
    exact this M q
  · unfold mL
    rw [List.getD_eq_getElem?_getD, List.getElem?_eq_none (by simpa [x_meth] using q)]
    decide
