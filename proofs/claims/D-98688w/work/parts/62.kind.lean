/-! kinds and references of the fixed cells (printed by gen/kinds.py) -/
theorem kd20 {M : PM} (h : Sh M) : M.k 20 = (0, 0) := sh_k h 0 rfl
theorem kd21 {M : PM} (h : Sh M) : M.k 21 = (1, 0) := sh_k h 1 rfl
theorem kd22 {M : PM} (h : Sh M) : M.k 22 = (20, 4) := sh_k h 2 rfl
theorem kd23 {M : PM} (h : Sh M) : M.k 23 = (20, 4) := sh_k h 3 rfl
theorem kd24 {M : PM} (h : Sh M) : M.k 24 = (20, 4) := sh_k h 4 rfl
theorem kd25 {M : PM} (h : Sh M) : M.k 25 = (20, 30) := sh_k h 5 rfl
theorem kd26 {M : PM} (h : Sh M) : M.k 26 = (1, 0) := sh_k h 6 rfl
theorem kd27 {M : PM} (h : Sh M) : M.k 27 = (20, 4) := sh_k h 7 rfl
theorem kd28 {M : PM} (h : Sh M) : M.k 28 = (20, 4) := sh_k h 8 rfl
theorem kd29 {M : PM} (h : Sh M) : M.k 29 = (20, 4) := sh_k h 9 rfl
theorem kd30 {M : PM} (h : Sh M) : M.k 30 = (20, 30) := sh_k h 10 rfl
theorem kd31 {M : PM} (h : Sh M) : M.k 31 = (20, 60) := sh_k h 11 rfl
theorem kd32 {M : PM} (h : Sh M) : M.k 32 = (20, 10) := sh_k h 12 rfl
theorem kd33 {M : PM} (h : Sh M) : M.k 33 = (20, 10) := sh_k h 13 rfl
theorem kd34 {M : PM} (h : Sh M) : M.k 34 = (20, 10) := sh_k h 14 rfl
theorem kd35 {M : PM} (h : Sh M) : M.k 35 = (20, 8) := sh_k h 15 rfl
theorem kd36 {M : PM} (h : Sh M) : M.k 36 = (20, 8) := sh_k h 16 rfl
theorem kd37 {M : PM} (h : Sh M) : M.k 37 = (20, 8) := sh_k h 17 rfl
theorem kd38 {M : PM} (h : Sh M) : M.k 38 = (20, 8) := sh_k h 18 rfl
theorem kd39 {M : PM} (h : Sh M) : M.k 39 = (20, 80) := sh_k h 19 rfl
theorem kd40 {M : PM} (h : Sh M) : M.k 40 = (20, 60) := sh_k h 20 rfl
theorem kd41 {M : PM} (h : Sh M) : M.k 41 = (20, 10) := sh_k h 21 rfl
theorem kd42 {M : PM} (h : Sh M) : M.k 42 = (20, 10) := sh_k h 22 rfl
theorem kd43 {M : PM} (h : Sh M) : M.k 43 = (20, 10) := sh_k h 23 rfl
theorem kd44 {M : PM} (h : Sh M) : M.k 44 = (20, 4) := sh_k h 24 rfl
theorem kd45 {M : PM} (h : Sh M) : M.k 45 = (20, 4) := sh_k h 25 rfl
theorem kd46 {M : PM} (h : Sh M) : M.k 46 = (20, 8) := sh_k h 26 rfl
theorem kd47 {M : PM} (h : Sh M) : M.k 47 = (20, 8) := sh_k h 27 rfl
theorem kd48 {M : PM} (h : Sh M) : M.k 48 = (20, 8) := sh_k h 28 rfl
theorem kd49 {M : PM} (h : Sh M) : M.k 49 = (20, 8) := sh_k h 29 rfl
theorem kd50 {M : PM} (h : Sh M) : M.k 50 = (20, 5) := sh_k h 30 rfl
theorem kd51 {M : PM} (h : Sh M) : M.k 51 = (24, 12) := sh_k h 31 rfl
theorem kd52 {M : PM} (h : Sh M) : M.k 52 = (1, 0) := sh_k h 32 rfl
theorem kd53 {M : PM} (h : Sh M) : M.k 53 = (20, 4) := sh_k h 33 rfl
theorem kd54 {M : PM} (h : Sh M) : M.k 54 = (20, 4) := sh_k h 34 rfl
theorem kd55 {M : PM} (h : Sh M) : M.k 55 = (20, 4) := sh_k h 35 rfl
theorem kd56 {M : PM} (h : Sh M) : M.k 56 = (20, 30) := sh_k h 36 rfl
theorem kd57 {M : PM} (h : Sh M) : M.k 57 = (20, 40) := sh_k h 37 rfl
theorem kd58 {M : PM} (h : Sh M) : M.k 58 = (20, 40) := sh_k h 38 rfl
theorem kd59 {M : PM} (h : Sh M) : M.k 59 = (20, 13) := sh_k h 39 rfl
theorem kd60 {M : PM} (h : Sh M) : M.k 60 = (20, 14) := sh_k h 40 rfl
theorem kd61 {M : PM} (h : Sh M) : M.k 61 = (20, 6) := sh_k h 41 rfl
theorem kd62 {M : PM} (h : Sh M) : M.k 62 = (20, 6) := sh_k h 42 rfl
theorem kd63 {M : PM} (h : Sh M) : M.k 63 = (20, 49) := sh_k h 43 rfl
theorem kd64 {M : PM} (h : Sh M) : M.k 64 = (20, 100) := sh_k h 44 rfl
theorem kd65 {M : PM} (h : Sh M) : M.k 65 = (20, 19968) := sh_k h 45 rfl
theorem kd66 {M : PM} (h : Sh M) : M.k 66 = (20, 5) := sh_k h 46 rfl
theorem kd67 {M : PM} (h : Sh M) : M.k 67 = (20, 4) := sh_k h 47 rfl
theorem kd68 {M : PM} (h : Sh M) : M.k 68 = (20, 4) := sh_k h 48 rfl
theorem kd69 {M : PM} (h : Sh M) : M.k 69 = (24, 2) := sh_k h 49 rfl
theorem kd70 {M : PM} (h : Sh M) : M.k 70 = (20, 2) := sh_k h 50 rfl
theorem kd71 {M : PM} (h : Sh M) : M.k 71 = (23, 16) := sh_k h 51 rfl
theorem kd72 {M : PM} (h : Sh M) : M.k 72 = (2, 0) := sh_k h 52 rfl
theorem kd73 {M : PM} (h : Sh M) : M.k 73 = (20, 44) := sh_k h 53 rfl
theorem kd74 {M : PM} (h : Sh M) : M.k 74 = (21, 60) := sh_k h 54 rfl
theorem kd75 {M : PM} (h : Sh M) : M.k 75 = (20, 10) := sh_k h 55 rfl
theorem kd76 {M : PM} (h : Sh M) : M.k 76 = (20, 20) := sh_k h 56 rfl
theorem kd77 {M : PM} (h : Sh M) : M.k 77 = (20, 32) := sh_k h 57 rfl
theorem kd78 {M : PM} (h : Sh M) : M.k 78 = (21, 80) := sh_k h 58 rfl
theorem kd79 {M : PM} (h : Sh M) : M.k 79 = (23, 20) := sh_k h 59 rfl
theorem kd80 {M : PM} (h : Sh M) : M.k 80 = (21, 60) := sh_k h 60 rfl
theorem kd81 {M : PM} (h : Sh M) : M.k 81 = (20, 10) := sh_k h 61 rfl
theorem kd82 {M : PM} (h : Sh M) : M.k 82 = (20, 40) := sh_k h 62 rfl
theorem kd83 {M : PM} (h : Sh M) : M.k 83 = (21, 40) := sh_k h 63 rfl
theorem kd84 {M : PM} (h : Sh M) : M.k 84 = (21, 40) := sh_k h 64 rfl
theorem kd85 {M : PM} (h : Sh M) : M.k 85 = (20, 7) := sh_k h 65 rfl
theorem kd86 {M : PM} (h : Sh M) : M.k 86 = (20, 5) := sh_k h 66 rfl
theorem kd87 {M : PM} (h : Sh M) : M.k 87 = (20, 528) := sh_k h 67 rfl
theorem kd88 {M : PM} (h : Sh M) : M.k 88 = (20, 44) := sh_k h 68 rfl
theorem kd89 {M : PM} (h : Sh M) : M.k 89 = (20, 240) := sh_k h 69 rfl
theorem kd90 {M : PM} (h : Sh M) : M.k 90 = (20, 13) := sh_k h 70 rfl
theorem kd91 {M : PM} (h : Sh M) : M.k 91 = (20, 6) := sh_k h 71 rfl
theorem kd92 {M : PM} (h : Sh M) : M.k 92 = (20, 6) := sh_k h 72 rfl
theorem kd93 {M : PM} (h : Sh M) : M.k 93 = (20, 49) := sh_k h 73 rfl
theorem kd94 {M : PM} (h : Sh M) : M.k 94 = (20, 1536) := sh_k h 74 rfl
theorem kd95 {M : PM} (h : Sh M) : M.k 95 = (20, 1536) := sh_k h 75 rfl
theorem kd96 {M : PM} (h : Sh M) : M.k 96 = (20, 10) := sh_k h 76 rfl
theorem kd97 {M : PM} (h : Sh M) : M.k 97 = (20, 5) := sh_k h 77 rfl
theorem kd98 {M : PM} (h : Sh M) : M.k 98 = (20, 4) := sh_k h 78 rfl
theorem kd99 {M : PM} (h : Sh M) : M.k 99 = (20, 4) := sh_k h 79 rfl
theorem kd100 {M : PM} (h : Sh M) : M.k 100 = (20, 44) := sh_k h 80 rfl
theorem kd101 {M : PM} (h : Sh M) : M.k 101 = (20, 88) := sh_k h 81 rfl
theorem kd102 {M : PM} (h : Sh M) : M.k 102 = (22, 2) := sh_k h 82 rfl
theorem kd103 {M : PM} (h : Sh M) : M.k 103 = (20, 2) := sh_k h 83 rfl
theorem kd104 {M : PM} (h : Sh M) : M.k 104 = (23, 1) := sh_k h 84 rfl
theorem rd21_0 {M : PM} (h : Sh M) : M.r 21 0 = some 22 := sh_r h 0 rfl
theorem rd21_1 {M : PM} (h : Sh M) : M.r 21 1 = some 23 := sh_r h 1 rfl
theorem rd21_2 {M : PM} (h : Sh M) : M.r 21 2 = some 24 := sh_r h 2 rfl
theorem rd21_3 {M : PM} (h : Sh M) : M.r 21 3 = some 25 := sh_r h 3 rfl
theorem rd20_0 {M : PM} (h : Sh M) : M.r 20 0 = some 21 := sh_r h 4 rfl
theorem rd26_0 {M : PM} (h : Sh M) : M.r 26 0 = some 27 := sh_r h 5 rfl
theorem rd26_1 {M : PM} (h : Sh M) : M.r 26 1 = some 28 := sh_r h 6 rfl
theorem rd26_2 {M : PM} (h : Sh M) : M.r 26 2 = some 29 := sh_r h 7 rfl
theorem rd26_3 {M : PM} (h : Sh M) : M.r 26 3 = some 30 := sh_r h 8 rfl
theorem rd20_1 {M : PM} (h : Sh M) : M.r 20 1 = some 26 := sh_r h 9 rfl
theorem rd20_2 {M : PM} (h : Sh M) : M.r 20 2 = some 31 := sh_r h 10 rfl
theorem rd20_3 {M : PM} (h : Sh M) : M.r 20 3 = some 32 := sh_r h 11 rfl
theorem rd20_4 {M : PM} (h : Sh M) : M.r 20 4 = some 33 := sh_r h 12 rfl
theorem rd20_5 {M : PM} (h : Sh M) : M.r 20 5 = some 34 := sh_r h 13 rfl
theorem rd20_6 {M : PM} (h : Sh M) : M.r 20 6 = some 35 := sh_r h 14 rfl
theorem rd20_7 {M : PM} (h : Sh M) : M.r 20 7 = some 36 := sh_r h 15 rfl
theorem rd20_8 {M : PM} (h : Sh M) : M.r 20 8 = some 37 := sh_r h 16 rfl
theorem rd20_9 {M : PM} (h : Sh M) : M.r 20 9 = some 38 := sh_r h 17 rfl
theorem rd20_15 {M : PM} (h : Sh M) : M.r 20 15 = some 39 := sh_r h 18 rfl
theorem rd20_20 {M : PM} (h : Sh M) : M.r 20 20 = some 40 := sh_r h 19 rfl
theorem rd20_21 {M : PM} (h : Sh M) : M.r 20 21 = some 41 := sh_r h 20 rfl
theorem rd20_22 {M : PM} (h : Sh M) : M.r 20 22 = some 42 := sh_r h 21 rfl
theorem rd20_23 {M : PM} (h : Sh M) : M.r 20 23 = some 43 := sh_r h 22 rfl
theorem rd20_25 {M : PM} (h : Sh M) : M.r 20 25 = some 44 := sh_r h 23 rfl
theorem rd20_26 {M : PM} (h : Sh M) : M.r 20 26 = some 45 := sh_r h 24 rfl
theorem rd20_27 {M : PM} (h : Sh M) : M.r 20 27 = some 46 := sh_r h 25 rfl
theorem rd20_28 {M : PM} (h : Sh M) : M.r 20 28 = some 47 := sh_r h 26 rfl
theorem rd20_29 {M : PM} (h : Sh M) : M.r 20 29 = some 48 := sh_r h 27 rfl
theorem rd20_30 {M : PM} (h : Sh M) : M.r 20 30 = some 49 := sh_r h 28 rfl
theorem rd20_40 {M : PM} (h : Sh M) : M.r 20 40 = some 50 := sh_r h 29 rfl
theorem rd20_41 {M : PM} (h : Sh M) : M.r 20 41 = some 51 := sh_r h 30 rfl
theorem rd52_0 {M : PM} (h : Sh M) : M.r 52 0 = some 53 := sh_r h 31 rfl
theorem rd52_1 {M : PM} (h : Sh M) : M.r 52 1 = some 54 := sh_r h 32 rfl
theorem rd52_2 {M : PM} (h : Sh M) : M.r 52 2 = some 55 := sh_r h 33 rfl
theorem rd52_3 {M : PM} (h : Sh M) : M.r 52 3 = some 56 := sh_r h 34 rfl
theorem rd20_42 {M : PM} (h : Sh M) : M.r 20 42 = some 52 := sh_r h 35 rfl
theorem rd20_45 {M : PM} (h : Sh M) : M.r 20 45 = some 57 := sh_r h 36 rfl
theorem rd20_46 {M : PM} (h : Sh M) : M.r 20 46 = some 58 := sh_r h 37 rfl
theorem rd20_49 {M : PM} (h : Sh M) : M.r 20 49 = some 59 := sh_r h 38 rfl
theorem rd20_50 {M : PM} (h : Sh M) : M.r 20 50 = some 60 := sh_r h 39 rfl
theorem rd20_52 {M : PM} (h : Sh M) : M.r 20 52 = some 61 := sh_r h 40 rfl
theorem rd20_53 {M : PM} (h : Sh M) : M.r 20 53 = some 62 := sh_r h 41 rfl
theorem rd20_54 {M : PM} (h : Sh M) : M.r 20 54 = some 63 := sh_r h 42 rfl
theorem rd20_55 {M : PM} (h : Sh M) : M.r 20 55 = some 64 := sh_r h 43 rfl
theorem rd20_56 {M : PM} (h : Sh M) : M.r 20 56 = some 65 := sh_r h 44 rfl
theorem rd20_58 {M : PM} (h : Sh M) : M.r 20 58 = some 66 := sh_r h 45 rfl
theorem rd20_59 {M : PM} (h : Sh M) : M.r 20 59 = some 67 := sh_r h 46 rfl
theorem rd20_60 {M : PM} (h : Sh M) : M.r 20 60 = some 68 := sh_r h 47 rfl
theorem rd20_64 {M : PM} (h : Sh M) : M.r 20 64 = some 69 := sh_r h 48 rfl
theorem rd20_65 {M : PM} (h : Sh M) : M.r 20 65 = some 70 := sh_r h 49 rfl
theorem rd20_66 {M : PM} (h : Sh M) : M.r 20 66 = some 71 := sh_r h 50 rfl
theorem rd72_0 {M : PM} (h : Sh M) : M.r 72 0 = some 73 := sh_r h 51 rfl
theorem rd72_3 {M : PM} (h : Sh M) : M.r 72 3 = some 74 := sh_r h 52 rfl
theorem rd72_4 {M : PM} (h : Sh M) : M.r 72 4 = some 75 := sh_r h 53 rfl
theorem rd72_5 {M : PM} (h : Sh M) : M.r 72 5 = some 76 := sh_r h 54 rfl
theorem rd72_8 {M : PM} (h : Sh M) : M.r 72 8 = some 77 := sh_r h 55 rfl
theorem rd72_9 {M : PM} (h : Sh M) : M.r 72 9 = some 78 := sh_r h 56 rfl
theorem rd72_11 {M : PM} (h : Sh M) : M.r 72 11 = some 79 := sh_r h 57 rfl
theorem rd72_19 {M : PM} (h : Sh M) : M.r 72 19 = some 80 := sh_r h 58 rfl
theorem rd72_20 {M : PM} (h : Sh M) : M.r 72 20 = some 81 := sh_r h 59 rfl
theorem rd72_21 {M : PM} (h : Sh M) : M.r 72 21 = some 82 := sh_r h 60 rfl
theorem rd72_26 {M : PM} (h : Sh M) : M.r 72 26 = some 85 := sh_r h 61 rfl
theorem rd72_27 {M : PM} (h : Sh M) : M.r 72 27 = some 86 := sh_r h 62 rfl
theorem rd72_28 {M : PM} (h : Sh M) : M.r 72 28 = some 87 := sh_r h 63 rfl
theorem rd72_30 {M : PM} (h : Sh M) : M.r 72 30 = some 88 := sh_r h 64 rfl
theorem rd72_32 {M : PM} (h : Sh M) : M.r 72 32 = some 89 := sh_r h 65 rfl
theorem rd72_34 {M : PM} (h : Sh M) : M.r 72 34 = some 90 := sh_r h 66 rfl
theorem rd72_35 {M : PM} (h : Sh M) : M.r 72 35 = some 91 := sh_r h 67 rfl
theorem rd72_36 {M : PM} (h : Sh M) : M.r 72 36 = some 92 := sh_r h 68 rfl
theorem rd72_37 {M : PM} (h : Sh M) : M.r 72 37 = some 93 := sh_r h 69 rfl
theorem rd72_38 {M : PM} (h : Sh M) : M.r 72 38 = some 94 := sh_r h 70 rfl
theorem rd72_39 {M : PM} (h : Sh M) : M.r 72 39 = some 95 := sh_r h 71 rfl
theorem rd72_44 {M : PM} (h : Sh M) : M.r 72 44 = some 96 := sh_r h 72 rfl
theorem rd72_45 {M : PM} (h : Sh M) : M.r 72 45 = some 97 := sh_r h 73 rfl
theorem rd72_46 {M : PM} (h : Sh M) : M.r 72 46 = some 98 := sh_r h 74 rfl
theorem rd72_47 {M : PM} (h : Sh M) : M.r 72 47 = some 99 := sh_r h 75 rfl
theorem rd72_51 {M : PM} (h : Sh M) : M.r 72 51 = some 100 := sh_r h 76 rfl
theorem rd72_53 {M : PM} (h : Sh M) : M.r 72 53 = some 101 := sh_r h 77 rfl
theorem rd72_54 {M : PM} (h : Sh M) : M.r 72 54 = some 102 := sh_r h 78 rfl
theorem rd72_55 {M : PM} (h : Sh M) : M.r 72 55 = some 103 := sh_r h 79 rfl
