/-! THE STATIC LAYOUT, by program out of the constructors -/
set_option maxRecDepth 100000
def zcl : List vw_C := [(RX1, TX1, 40), (RX2, TX2, 10), (RX3, TX3, 5), (RX4, TX4, 60), (RX5, TX5, 5), (RX6, TX6, 8), (RX7, TX7, 2), (RX8, TX8, 4), (RX9, TX9, 3), (RJ2, TJ2, 3), (RJ8, TJ8, 4), (RJ9, TJ9, 4), (RJ6, TJ6, 6), (RJ18, TJ18, 6), (RJ19, TJ19, 6)]
-- 0: RightTurns
-- 1: RightTurns$Town
-- 2: RightTurns$State
-- 3: RightTurnsModel
-- 4: RightTurns$Reader
-- 5: RightTurns$Wrong
-- 6: RightTurns$Corner
-- 7: RightTurns$Street
-- 8: RightTurns$Rider
-- 9: java/util/ArrayList
-- 10: java/lang/StringBuilder
-- 11: java/lang/String
-- 12: java/lang/IllegalArgumentException
-- 13: java/util/NoSuchElementException
-- 14: java/lang/IndexOutOfBoundsException
def ftL : List (List Nat) := [[2, 2, 0, 0, 0, 2, 2, 2, 2, 0, 2, 2, 2, 2, 2, 2, 2, 0, 2, 2, 2, 2, 2, 2, 2, 2, 2, 2, 2, 2, 0, 0, 2, 2, 2, 2, 0, 0, 0, 2], [2, 2, 2, 2, 2, 2, 2, 0, 0, 0], [2, 2, 2, 0, 0], [0, 0, 0, 0, 0, 0, 0, 0, 2, 2, 2, 2, 2, 2, 2, 2, 2, 2, 2, 0, 2, 2, 2, 2, 2, 2, 2, 0, 0, 0, 2, 2, 2, 0, 0, 0, 2, 2, 2, 2, 2, 2, 2, 0, 2, 0, 2, 2, 2, 2, 2, 2, 2, 2, 0, 0, 0, 1, 0, 0], [2, 0, 0, 0, 2], [2, 2, 2, 2, 2, 0, 0, 0], [0, 0], [0, 0, 0, 0], [0, 0, 0], [0, 2, 0], [2, 0, 0, 0], [2, 0, 0, 0], [2, 2, 2, 2, 2, 0], [2, 2, 2, 2, 2, 0], [2, 2, 2, 2, 2, 0]]
def fty (ci k : Nat) : Nat := (ftL.getD ci []).getD k 0
def nfs (ci : Nat) : Nat := (ftL.getD ci []).length
def Kst (a : Nat) : Nat × Nat := (if a < 49 then (if a < 22 then (if a < 8 then (if a < 4 then (if a < 2 then (if a < 1 then (7, 0) else (8, 0)) else (if a < 3 then (16, 0) else (6, 2))) else (if a < 6 then (if a < 5 then (16, 0) else (6, 2)) else (if a < 7 then (16, 0) else (6, 1)))) else (if a < 15 then (if a < 12 then (if a < 10 then (0, 24) else (0, 576)) else (if a < 13 then (9, 0) else (0, 4824))) else (if a < 17 then (if a < 16 then (0, 12) else (2, 500)) else (if a < 18 then (5, 3) else (if a < 20 then (0, 24) else (0, 48)))))) else (if a < 32 then (if a < 27 then (if a < 25 then (if a < 23 then (3, 48) else (0, 48)) else (if a < 26 then (1, 48) else (0, 14))) else (if a < 29 then (if a < 28 then (0, 49152) else (0, 16)) else (if a < 30 then (0, 11) else (if a < 31 then (0, 121) else (0, 2048))))) else (if a < 43 then (if a < 39 then (if a < 33 then (0, 576) else (0, 12)) else (if a < 41 then (0, 48) else (1, 48))) else (if a < 45 then (if a < 44 then (0, 24) else (10, 0)) else (if a < 46 then (0, 500) else (if a < 48 then (0, 4) else (4, 16))))))) else (if a < 569 then (if a < 145 then (if a < 83 then (if a < 66 then (if a < 65 then (0, 2) else (4, 16)) else (if a < 82 then (0, 2) else (4, 24))) else (if a < 108 then (if a < 107 then (0, 4) else (4, 24)) else (if a < 132 then (0, 4) else (if a < 133 then (4, 12) else (0, 3))))) else (if a < 161 then (if a < 158 then (if a < 146 then (4, 12) else (0, 3)) else (if a < 160 then (0, 24) else (4, 201))) else (if a < 363 then (if a < 362 then (0, 24) else (4, 201)) else (if a < 566 then (0, 24) else (if a < 568 then (1, 48) else (0, 48)))))) else (if a < 1171 then (if a < 1148 then (if a < 1146 then (if a < 570 then (4, 576) else (0, 2)) else (if a < 1147 then (0, 12) else (0, 14))) else (if a < 1161 then (if a < 1149 then (4, 12) else (0, 48)) else (if a < 1167 then (0, 12) else (if a < 1168 then (4, 3) else (0, 10000))))) else (if a < 1222 then (if a < 1220 then (if a < 1172 then (4, 48) else (0, 1024)) else (if a < 1221 then (0, 11) else (4, 11))) else (if a < 1234 then (if a < 1233 then (0, 11) else (0, 2048)) else (if a < 1236 then (0, 48) else (if a < 1238 then (1, 48) else (1, 1))))))))
def pl0 : List (Option Nat) := [none, some 12, none, none, none, some 16, some 17, some 18, some 19, none, some 20, some 21, some 22, some 23, some 24, some 25, some 26, none, some 27, some 28, some 29, some 30, some 31, some 32, some 33, some 34, some 35, some 36, some 37, some 38, none, none, some 39, some 40, some 41, some 42, none, none, none, some 43]
def pl1 : List (Option Nat) := [some 2, some 4, some 6, some 8, some 9, some 10, some 11, none, none, none]
def pl2 : List (Option Nat) := [none, some 3, none]
def pl4 : List (Option Nat) := [none, some 5, none]
def pl6 : List (Option Nat) := [none, some 7, none]
def pl12 : List (Option Nat) := [some 13, some 14, some 15, none, none]
def pl44 : List (Option Nat) := [none, none, none, none, none, none, none, none, some 45, some 46, some 47, some 48, some 65, some 82, some 107, some 132, some 145, some 158, some 159, none, some 160, some 362, some 564, some 565, some 566, some 567, some 568, none, none, none, some 569, some 1146, some 1147, none, none, none, some 1148, some 1161, some 1162, some 1163, some 1164, some 1165, some 1166, none, some 1167, none, some 1171, some 1220, some 1221, some 1233, some 1234, some 1235, some 1236, some 1237, none, none, none, none, none, none]
def Pst (a i : Nat) : Option Nat := if a = 0 then pl0.getD i none else if a = 1 then pl1.getD i none else if a = 2 then pl2.getD i none else if a = 4 then pl4.getD i none else if a = 6 then pl6.getD i none else if a = 12 then pl12.getD i none else if a = 44 then pl44.getD i none else if a = 48 then (if i < 16 then some (49 + i) else none) else if a = 65 then (if i < 16 then some (66 + i) else none) else if a = 82 then (if i < 24 then some (83 + i) else none) else if a = 107 then (if i < 24 then some (108 + i) else none) else if a = 132 then (if i < 12 then some (133 + i) else none) else if a = 145 then (if i < 12 then some (146 + i) else none) else if a = 160 then (if i < 201 then some (161 + i) else none) else if a = 362 then (if i < 201 then some (363 + i) else none) else if a = 569 then (if i < 576 then some (570 + i) else none) else if a = 1148 then (if i < 12 then some (1149 + i) else none) else if a = 1167 then (if i < 3 then some (1168 + i) else none) else if a = 1171 then (if i < 48 then some (1172 + i) else none) else if a = 1221 then (if i < 11 then some (1222 + i) else none) else none
def NS : Nat := 1239
