/-! ===== a decoder over lists of bytes: by gen/decgen.py ===== -/
set_option maxRecDepth 100000
abbrev pj_DR : Type := UInt8 × (List UInt8 → Option (Instr × Nat))
def pj_dok (q : pj_DR) : Prop := ∀ (code : ByteArray) (pc : Nat) (r : List UInt8) (i : Instr) (n : Nat), code.data.toList.drop pc = q.1 :: r → q.2 r = some (i, n) → decode code pc = .ok (i, n)
theorem pj_dk {code : ByteArray} {pc : Nat} {a r : List UInt8} (h : code.data.toList.drop pc = a ++ r) : DkAt code pc a := by
  intro j b e
  have h2 : j < a.length := (List.getElem?_eq_some_iff.mp e).1
  have h5 : (code.data.toList.drop pc)[j]? = some b := by
    rw [h, List.getElem?_append_left h2]
    exact e
  rw [List.getElem?_drop] at h5
  exact h5
def pj_r1 : pj_DR := (1, fun _ => some (.aconst_null, 1))
theorem pj_k1 : pj_dok pj_r1 := by
  intro code pc r i n hb h
  cases h
  exact dk_1 (pj_dk (a := [1]) hb)
def pj_r2 : pj_DR := (2, fun _ => some (.iconst (-1), 1))
theorem pj_k2 : pj_dok pj_r2 := by
  intro code pc r i n hb h
  cases h
  exact dk_2 (pj_dk (a := [2]) hb)
def pj_r3 : pj_DR := (3, fun _ => some (.iconst 0, 1))
theorem pj_k3 : pj_dok pj_r3 := by
  intro code pc r i n hb h
  cases h
  exact dk_3 (pj_dk (a := [3]) hb)
def pj_r4 : pj_DR := (4, fun _ => some (.iconst 1, 1))
theorem pj_k4 : pj_dok pj_r4 := by
  intro code pc r i n hb h
  cases h
  exact dk_4 (pj_dk (a := [4]) hb)
def pj_r5 : pj_DR := (5, fun _ => some (.iconst 2, 1))
theorem pj_k5 : pj_dok pj_r5 := by
  intro code pc r i n hb h
  cases h
  exact dk_5 (pj_dk (a := [5]) hb)
def pj_r6 : pj_DR := (6, fun _ => some (.iconst 3, 1))
theorem pj_k6 : pj_dok pj_r6 := by
  intro code pc r i n hb h
  cases h
  exact dk_6 (pj_dk (a := [6]) hb)
def pj_r7 : pj_DR := (7, fun _ => some (.iconst 4, 1))
theorem pj_k7 : pj_dok pj_r7 := by
  intro code pc r i n hb h
  cases h
  exact dk_7 (pj_dk (a := [7]) hb)
def pj_r8 : pj_DR := (8, fun _ => some (.iconst 5, 1))
theorem pj_k8 : pj_dok pj_r8 := by
  intro code pc r i n hb h
  cases h
  exact dk_8 (pj_dk (a := [8]) hb)
def pj_r9 : pj_DR := (9, fun _ => some (.lconst 0, 1))
theorem pj_k9 : pj_dok pj_r9 := by
  intro code pc r i n hb h
  cases h
  exact dk_9 (pj_dk (a := [9]) hb)
def pj_r10 : pj_DR := (10, fun _ => some (.lconst 1, 1))
theorem pj_k10 : pj_dok pj_r10 := by
  intro code pc r i n hb h
  cases h
  exact dk_10 (pj_dk (a := [10]) hb)
def pj_r16 : pj_DR := (16, fun r => match r with
  | a :: _ => some (.bipush (Reader.signed 8 a.toNat), 2)
  | _ => none)
theorem pj_k16 : pj_dok pj_r16 := by
  intro code pc r i n hb h
  match r, hb, h with
  | [], hb, h => cases h
  | a :: r, hb, h =>
    cases h
    exact dk_16 a (pj_dk (a := [16, a]) hb)
def pj_r17 : pj_DR := (17, fun r => match r with
  | a :: b :: _ => some (.sipush (Reader.signed 16 (a.toNat * 256 + b.toNat)), 3)
  | _ => none)
theorem pj_k17 : pj_dok pj_r17 := by
  intro code pc r i n hb h
  match r, hb, h with
  | [], hb, h => cases h
  | [_], hb, h => cases h
  | a :: b :: r, hb, h =>
    cases h
    exact dk_17 a b (pj_dk (a := [17, a, b]) hb)
def pj_r18 : pj_DR := (18, fun r => match r with
  | a :: _ => some (.ldc a.toNat, 2)
  | _ => none)
theorem pj_k18 : pj_dok pj_r18 := by
  intro code pc r i n hb h
  match r, hb, h with
  | [], hb, h => cases h
  | a :: r, hb, h =>
    cases h
    exact dk_18 a (pj_dk (a := [18, a]) hb)
def pj_r19 : pj_DR := (19, fun r => match r with
  | a :: b :: _ => some (.ldc_w (a.toNat * 256 + b.toNat), 3)
  | _ => none)
theorem pj_k19 : pj_dok pj_r19 := by
  intro code pc r i n hb h
  match r, hb, h with
  | [], hb, h => cases h
  | [_], hb, h => cases h
  | a :: b :: r, hb, h =>
    cases h
    exact dk_19 a b (pj_dk (a := [19, a, b]) hb)
def pj_r20 : pj_DR := (20, fun r => match r with
  | a :: b :: _ => some (.ldc2_w (a.toNat * 256 + b.toNat), 3)
  | _ => none)
theorem pj_k20 : pj_dok pj_r20 := by
  intro code pc r i n hb h
  match r, hb, h with
  | [], hb, h => cases h
  | [_], hb, h => cases h
  | a :: b :: r, hb, h =>
    cases h
    exact dk_20 a b (pj_dk (a := [20, a, b]) hb)
def pj_r21 : pj_DR := (21, fun r => match r with
  | a :: _ => some (.iload a.toNat, 2)
  | _ => none)
theorem pj_k21 : pj_dok pj_r21 := by
  intro code pc r i n hb h
  match r, hb, h with
  | [], hb, h => cases h
  | a :: r, hb, h =>
    cases h
    exact dk_21 a (pj_dk (a := [21, a]) hb)
def pj_r22 : pj_DR := (22, fun r => match r with
  | a :: _ => some (.lload a.toNat, 2)
  | _ => none)
theorem pj_k22 : pj_dok pj_r22 := by
  intro code pc r i n hb h
  match r, hb, h with
  | [], hb, h => cases h
  | a :: r, hb, h =>
    cases h
    exact dk_22 a (pj_dk (a := [22, a]) hb)
def pj_r23 : pj_DR := (23, fun r => match r with
  | a :: _ => some (.fload a.toNat, 2)
  | _ => none)
theorem pj_k23 : pj_dok pj_r23 := by
  intro code pc r i n hb h
  match r, hb, h with
  | [], hb, h => cases h
  | a :: r, hb, h =>
    cases h
    exact dk_23 a (pj_dk (a := [23, a]) hb)
def pj_r25 : pj_DR := (25, fun r => match r with
  | a :: _ => some (.aload a.toNat, 2)
  | _ => none)
theorem pj_k25 : pj_dok pj_r25 := by
  intro code pc r i n hb h
  match r, hb, h with
  | [], hb, h => cases h
  | a :: r, hb, h =>
    cases h
    exact dk_25 a (pj_dk (a := [25, a]) hb)
def pj_r26 : pj_DR := (26, fun _ => some (.iload_n 0, 1))
theorem pj_k26 : pj_dok pj_r26 := by
  intro code pc r i n hb h
  cases h
  exact dk_26 (pj_dk (a := [26]) hb)
def pj_r27 : pj_DR := (27, fun _ => some (.iload_n 1, 1))
theorem pj_k27 : pj_dok pj_r27 := by
  intro code pc r i n hb h
  cases h
  exact dk_27 (pj_dk (a := [27]) hb)
def pj_r28 : pj_DR := (28, fun _ => some (.iload_n 2, 1))
theorem pj_k28 : pj_dok pj_r28 := by
  intro code pc r i n hb h
  cases h
  exact dk_28 (pj_dk (a := [28]) hb)
def pj_r29 : pj_DR := (29, fun _ => some (.iload_n 3, 1))
theorem pj_k29 : pj_dok pj_r29 := by
  intro code pc r i n hb h
  cases h
  exact dk_29 (pj_dk (a := [29]) hb)
def pj_r30 : pj_DR := (30, fun _ => some (.lload_n 0, 1))
theorem pj_k30 : pj_dok pj_r30 := by
  intro code pc r i n hb h
  cases h
  exact dk_30 (pj_dk (a := [30]) hb)
def pj_r31 : pj_DR := (31, fun _ => some (.lload_n 1, 1))
theorem pj_k31 : pj_dok pj_r31 := by
  intro code pc r i n hb h
  cases h
  exact dk_31 (pj_dk (a := [31]) hb)
def pj_r32 : pj_DR := (32, fun _ => some (.lload_n 2, 1))
theorem pj_k32 : pj_dok pj_r32 := by
  intro code pc r i n hb h
  cases h
  exact dk_32 (pj_dk (a := [32]) hb)
def pj_r33 : pj_DR := (33, fun _ => some (.lload_n 3, 1))
theorem pj_k33 : pj_dok pj_r33 := by
  intro code pc r i n hb h
  cases h
  exact dk_33 (pj_dk (a := [33]) hb)
def pj_r42 : pj_DR := (42, fun _ => some (.aload_n 0, 1))
theorem pj_k42 : pj_dok pj_r42 := by
  intro code pc r i n hb h
  cases h
  exact dk_42 (pj_dk (a := [42]) hb)
def pj_r43 : pj_DR := (43, fun _ => some (.aload_n 1, 1))
theorem pj_k43 : pj_dok pj_r43 := by
  intro code pc r i n hb h
  cases h
  exact dk_43 (pj_dk (a := [43]) hb)
def pj_r44 : pj_DR := (44, fun _ => some (.aload_n 2, 1))
theorem pj_k44 : pj_dok pj_r44 := by
  intro code pc r i n hb h
  cases h
  exact dk_44 (pj_dk (a := [44]) hb)
def pj_r45 : pj_DR := (45, fun _ => some (.aload_n 3, 1))
theorem pj_k45 : pj_dok pj_r45 := by
  intro code pc r i n hb h
  cases h
  exact dk_45 (pj_dk (a := [45]) hb)
def pj_r46 : pj_DR := (46, fun _ => some (.iaload, 1))
theorem pj_k46 : pj_dok pj_r46 := by
  intro code pc r i n hb h
  cases h
  exact dk_46 (pj_dk (a := [46]) hb)
def pj_r47 : pj_DR := (47, fun _ => some (.laload, 1))
theorem pj_k47 : pj_dok pj_r47 := by
  intro code pc r i n hb h
  cases h
  exact dk_47 (pj_dk (a := [47]) hb)
def pj_r50 : pj_DR := (50, fun _ => some (.aaload, 1))
theorem pj_k50 : pj_dok pj_r50 := by
  intro code pc r i n hb h
  cases h
  exact dk_50 (pj_dk (a := [50]) hb)
def pj_r51 : pj_DR := (51, fun _ => some (.baload, 1))
theorem pj_k51 : pj_dok pj_r51 := by
  intro code pc r i n hb h
  cases h
  exact dk_51 (pj_dk (a := [51]) hb)
def pj_r52 : pj_DR := (52, fun _ => some (.caload, 1))
theorem pj_k52 : pj_dok pj_r52 := by
  intro code pc r i n hb h
  cases h
  exact dk_52 (pj_dk (a := [52]) hb)
def pj_r53 : pj_DR := (53, fun _ => some (.saload, 1))
theorem pj_k53 : pj_dok pj_r53 := by
  intro code pc r i n hb h
  cases h
  exact dk_53 (pj_dk (a := [53]) hb)
def pj_r54 : pj_DR := (54, fun r => match r with
  | a :: _ => some (.istore a.toNat, 2)
  | _ => none)
theorem pj_k54 : pj_dok pj_r54 := by
  intro code pc r i n hb h
  match r, hb, h with
  | [], hb, h => cases h
  | a :: r, hb, h =>
    cases h
    exact dk_54 a (pj_dk (a := [54, a]) hb)
def pj_r55 : pj_DR := (55, fun r => match r with
  | a :: _ => some (.lstore a.toNat, 2)
  | _ => none)
theorem pj_k55 : pj_dok pj_r55 := by
  intro code pc r i n hb h
  match r, hb, h with
  | [], hb, h => cases h
  | a :: r, hb, h =>
    cases h
    exact dk_55 a (pj_dk (a := [55, a]) hb)
def pj_r56 : pj_DR := (56, fun r => match r with
  | a :: _ => some (.fstore a.toNat, 2)
  | _ => none)
theorem pj_k56 : pj_dok pj_r56 := by
  intro code pc r i n hb h
  match r, hb, h with
  | [], hb, h => cases h
  | a :: r, hb, h =>
    cases h
    exact dk_56 a (pj_dk (a := [56, a]) hb)
def pj_r58 : pj_DR := (58, fun r => match r with
  | a :: _ => some (.astore a.toNat, 2)
  | _ => none)
theorem pj_k58 : pj_dok pj_r58 := by
  intro code pc r i n hb h
  match r, hb, h with
  | [], hb, h => cases h
  | a :: r, hb, h =>
    cases h
    exact dk_58 a (pj_dk (a := [58, a]) hb)
def pj_r59 : pj_DR := (59, fun _ => some (.istore_n 0, 1))
theorem pj_k59 : pj_dok pj_r59 := by
  intro code pc r i n hb h
  cases h
  exact dk_59 (pj_dk (a := [59]) hb)
def pj_r60 : pj_DR := (60, fun _ => some (.istore_n 1, 1))
theorem pj_k60 : pj_dok pj_r60 := by
  intro code pc r i n hb h
  cases h
  exact dk_60 (pj_dk (a := [60]) hb)
def pj_r61 : pj_DR := (61, fun _ => some (.istore_n 2, 1))
theorem pj_k61 : pj_dok pj_r61 := by
  intro code pc r i n hb h
  cases h
  exact dk_61 (pj_dk (a := [61]) hb)
def pj_r62 : pj_DR := (62, fun _ => some (.istore_n 3, 1))
theorem pj_k62 : pj_dok pj_r62 := by
  intro code pc r i n hb h
  cases h
  exact dk_62 (pj_dk (a := [62]) hb)
def pj_r65 : pj_DR := (65, fun _ => some (.lstore_n 2, 1))
theorem pj_k65 : pj_dok pj_r65 := by
  intro code pc r i n hb h
  cases h
  exact dk_65 (pj_dk (a := [65]) hb)
def pj_r66 : pj_DR := (66, fun _ => some (.lstore_n 3, 1))
theorem pj_k66 : pj_dok pj_r66 := by
  intro code pc r i n hb h
  cases h
  exact dk_66 (pj_dk (a := [66]) hb)
def pj_r75 : pj_DR := (75, fun _ => some (.astore_n 0, 1))
theorem pj_k75 : pj_dok pj_r75 := by
  intro code pc r i n hb h
  cases h
  exact dk_75 (pj_dk (a := [75]) hb)
def pj_r76 : pj_DR := (76, fun _ => some (.astore_n 1, 1))
theorem pj_k76 : pj_dok pj_r76 := by
  intro code pc r i n hb h
  cases h
  exact dk_76 (pj_dk (a := [76]) hb)
def pj_r77 : pj_DR := (77, fun _ => some (.astore_n 2, 1))
theorem pj_k77 : pj_dok pj_r77 := by
  intro code pc r i n hb h
  cases h
  exact dk_77 (pj_dk (a := [77]) hb)
def pj_r78 : pj_DR := (78, fun _ => some (.astore_n 3, 1))
theorem pj_k78 : pj_dok pj_r78 := by
  intro code pc r i n hb h
  cases h
  exact dk_78 (pj_dk (a := [78]) hb)
def pj_r79 : pj_DR := (79, fun _ => some (.iastore, 1))
theorem pj_k79 : pj_dok pj_r79 := by
  intro code pc r i n hb h
  cases h
  exact dk_79 (pj_dk (a := [79]) hb)
def pj_r80 : pj_DR := (80, fun _ => some (.lastore, 1))
theorem pj_k80 : pj_dok pj_r80 := by
  intro code pc r i n hb h
  cases h
  exact dk_80 (pj_dk (a := [80]) hb)
def pj_r83 : pj_DR := (83, fun _ => some (.aastore, 1))
theorem pj_k83 : pj_dok pj_r83 := by
  intro code pc r i n hb h
  cases h
  exact dk_83 (pj_dk (a := [83]) hb)
def pj_r84 : pj_DR := (84, fun _ => some (.bastore, 1))
theorem pj_k84 : pj_dok pj_r84 := by
  intro code pc r i n hb h
  cases h
  exact dk_84 (pj_dk (a := [84]) hb)
def pj_r87 : pj_DR := (87, fun _ => some (.pop, 1))
theorem pj_k87 : pj_dok pj_r87 := by
  intro code pc r i n hb h
  cases h
  exact dk_87 (pj_dk (a := [87]) hb)
def pj_r89 : pj_DR := (89, fun _ => some (.dup, 1))
theorem pj_k89 : pj_dok pj_r89 := by
  intro code pc r i n hb h
  cases h
  exact dk_89 (pj_dk (a := [89]) hb)
def pj_r90 : pj_DR := (90, fun _ => some (.dup_x1, 1))
theorem pj_k90 : pj_dok pj_r90 := by
  intro code pc r i n hb h
  cases h
  exact dk_90 (pj_dk (a := [90]) hb)
def pj_r91 : pj_DR := (91, fun _ => some (.dup_x2, 1))
theorem pj_k91 : pj_dok pj_r91 := by
  intro code pc r i n hb h
  cases h
  exact dk_91 (pj_dk (a := [91]) hb)
def pj_r92 : pj_DR := (92, fun _ => some (.dup2, 1))
theorem pj_k92 : pj_dok pj_r92 := by
  intro code pc r i n hb h
  cases h
  exact dk_92 (pj_dk (a := [92]) hb)
def pj_r96 : pj_DR := (96, fun _ => some (.iadd, 1))
theorem pj_k96 : pj_dok pj_r96 := by
  intro code pc r i n hb h
  cases h
  exact dk_96 (pj_dk (a := [96]) hb)
def pj_r97 : pj_DR := (97, fun _ => some (.ladd, 1))
theorem pj_k97 : pj_dok pj_r97 := by
  intro code pc r i n hb h
  cases h
  exact dk_97 (pj_dk (a := [97]) hb)
def pj_r100 : pj_DR := (100, fun _ => some (.isub, 1))
theorem pj_k100 : pj_dok pj_r100 := by
  intro code pc r i n hb h
  cases h
  exact dk_100 (pj_dk (a := [100]) hb)
def pj_r101 : pj_DR := (101, fun _ => some (.lsub, 1))
theorem pj_k101 : pj_dok pj_r101 := by
  intro code pc r i n hb h
  cases h
  exact dk_101 (pj_dk (a := [101]) hb)
def pj_r104 : pj_DR := (104, fun _ => some (.imul, 1))
theorem pj_k104 : pj_dok pj_r104 := by
  intro code pc r i n hb h
  cases h
  exact dk_104 (pj_dk (a := [104]) hb)
def pj_r105 : pj_DR := (105, fun _ => some (.lmul, 1))
theorem pj_k105 : pj_dok pj_r105 := by
  intro code pc r i n hb h
  cases h
  exact dk_105 (pj_dk (a := [105]) hb)
def pj_r106 : pj_DR := (106, fun _ => some (.fmul, 1))
theorem pj_k106 : pj_dok pj_r106 := by
  intro code pc r i n hb h
  cases h
  exact dk_106 (pj_dk (a := [106]) hb)
def pj_r108 : pj_DR := (108, fun _ => some (.idiv, 1))
theorem pj_k108 : pj_dok pj_r108 := by
  intro code pc r i n hb h
  cases h
  exact dk_108 (pj_dk (a := [108]) hb)
def pj_r109 : pj_DR := (109, fun _ => some (.ldiv, 1))
theorem pj_k109 : pj_dok pj_r109 := by
  intro code pc r i n hb h
  cases h
  exact dk_109 (pj_dk (a := [109]) hb)
def pj_r112 : pj_DR := (112, fun _ => some (.irem, 1))
theorem pj_k112 : pj_dok pj_r112 := by
  intro code pc r i n hb h
  cases h
  exact dk_112 (pj_dk (a := [112]) hb)
def pj_r113 : pj_DR := (113, fun _ => some (.lrem, 1))
theorem pj_k113 : pj_dok pj_r113 := by
  intro code pc r i n hb h
  cases h
  exact dk_113 (pj_dk (a := [113]) hb)
def pj_r116 : pj_DR := (116, fun _ => some (.ineg, 1))
theorem pj_k116 : pj_dok pj_r116 := by
  intro code pc r i n hb h
  cases h
  exact dk_116 (pj_dk (a := [116]) hb)
def pj_r117 : pj_DR := (117, fun _ => some (.lneg, 1))
theorem pj_k117 : pj_dok pj_r117 := by
  intro code pc r i n hb h
  cases h
  exact dk_117 (pj_dk (a := [117]) hb)
def pj_r120 : pj_DR := (120, fun _ => some (.ishl, 1))
theorem pj_k120 : pj_dok pj_r120 := by
  intro code pc r i n hb h
  cases h
  exact dk_120 (pj_dk (a := [120]) hb)
def pj_r121 : pj_DR := (121, fun _ => some (.lshl, 1))
theorem pj_k121 : pj_dok pj_r121 := by
  intro code pc r i n hb h
  cases h
  exact dk_121 (pj_dk (a := [121]) hb)
def pj_r122 : pj_DR := (122, fun _ => some (.ishr, 1))
theorem pj_k122 : pj_dok pj_r122 := by
  intro code pc r i n hb h
  cases h
  exact dk_122 (pj_dk (a := [122]) hb)
def pj_r123 : pj_DR := (123, fun _ => some (.lshr, 1))
theorem pj_k123 : pj_dok pj_r123 := by
  intro code pc r i n hb h
  cases h
  exact dk_123 (pj_dk (a := [123]) hb)
def pj_r124 : pj_DR := (124, fun _ => some (.iushr, 1))
theorem pj_k124 : pj_dok pj_r124 := by
  intro code pc r i n hb h
  cases h
  exact dk_124 (pj_dk (a := [124]) hb)
def pj_r125 : pj_DR := (125, fun _ => some (.lushr, 1))
theorem pj_k125 : pj_dok pj_r125 := by
  intro code pc r i n hb h
  cases h
  exact dk_125 (pj_dk (a := [125]) hb)
def pj_r126 : pj_DR := (126, fun _ => some (.iand, 1))
theorem pj_k126 : pj_dok pj_r126 := by
  intro code pc r i n hb h
  cases h
  exact dk_126 (pj_dk (a := [126]) hb)
def pj_r127 : pj_DR := (127, fun _ => some (.land, 1))
theorem pj_k127 : pj_dok pj_r127 := by
  intro code pc r i n hb h
  cases h
  exact dk_127 (pj_dk (a := [127]) hb)
def pj_r128 : pj_DR := (128, fun _ => some (.ior, 1))
theorem pj_k128 : pj_dok pj_r128 := by
  intro code pc r i n hb h
  cases h
  exact dk_128 (pj_dk (a := [128]) hb)
def pj_r129 : pj_DR := (129, fun _ => some (.lor, 1))
theorem pj_k129 : pj_dok pj_r129 := by
  intro code pc r i n hb h
  cases h
  exact dk_129 (pj_dk (a := [129]) hb)
def pj_r130 : pj_DR := (130, fun _ => some (.ixor, 1))
theorem pj_k130 : pj_dok pj_r130 := by
  intro code pc r i n hb h
  cases h
  exact dk_130 (pj_dk (a := [130]) hb)
def pj_r131 : pj_DR := (131, fun _ => some (.lxor, 1))
theorem pj_k131 : pj_dok pj_r131 := by
  intro code pc r i n hb h
  cases h
  exact dk_131 (pj_dk (a := [131]) hb)
def pj_r132 : pj_DR := (132, fun r => match r with
  | a :: b :: _ => some (.iinc a.toNat (Reader.signed 8 b.toNat), 3)
  | _ => none)
theorem pj_k132 : pj_dok pj_r132 := by
  intro code pc r i n hb h
  match r, hb, h with
  | [], hb, h => cases h
  | [_], hb, h => cases h
  | a :: b :: r, hb, h =>
    cases h
    exact dk_132 a b (pj_dk (a := [132, a, b]) hb)
def pj_r133 : pj_DR := (133, fun _ => some (.i2l, 1))
theorem pj_k133 : pj_dok pj_r133 := by
  intro code pc r i n hb h
  cases h
  exact dk_133 (pj_dk (a := [133]) hb)
def pj_r134 : pj_DR := (134, fun _ => some (.i2f, 1))
theorem pj_k134 : pj_dok pj_r134 := by
  intro code pc r i n hb h
  cases h
  exact dk_134 (pj_dk (a := [134]) hb)
def pj_r136 : pj_DR := (136, fun _ => some (.l2i, 1))
theorem pj_k136 : pj_dok pj_r136 := by
  intro code pc r i n hb h
  cases h
  exact dk_136 (pj_dk (a := [136]) hb)
def pj_r139 : pj_DR := (139, fun _ => some (.f2i, 1))
theorem pj_k139 : pj_dok pj_r139 := by
  intro code pc r i n hb h
  cases h
  exact dk_139 (pj_dk (a := [139]) hb)
def pj_r145 : pj_DR := (145, fun _ => some (.i2b, 1))
theorem pj_k145 : pj_dok pj_r145 := by
  intro code pc r i n hb h
  cases h
  exact dk_145 (pj_dk (a := [145]) hb)
def pj_r146 : pj_DR := (146, fun _ => some (.i2c, 1))
theorem pj_k146 : pj_dok pj_r146 := by
  intro code pc r i n hb h
  cases h
  exact dk_146 (pj_dk (a := [146]) hb)
def pj_r148 : pj_DR := (148, fun _ => some (.lcmp, 1))
theorem pj_k148 : pj_dok pj_r148 := by
  intro code pc r i n hb h
  cases h
  exact dk_148 (pj_dk (a := [148]) hb)
def pj_r150 : pj_DR := (150, fun _ => some (.fcmp .g, 1))
theorem pj_k150 : pj_dok pj_r150 := by
  intro code pc r i n hb h
  cases h
  exact dk_150 (pj_dk (a := [150]) hb)
def pj_r153 : pj_DR := (153, fun r => match r with
  | a :: b :: _ => some (.ifCond .eq (Reader.signed 16 (a.toNat * 256 + b.toNat)), 3)
  | _ => none)
theorem pj_k153 : pj_dok pj_r153 := by
  intro code pc r i n hb h
  match r, hb, h with
  | [], hb, h => cases h
  | [_], hb, h => cases h
  | a :: b :: r, hb, h =>
    cases h
    exact dk_153 a b (pj_dk (a := [153, a, b]) hb)
def pj_r154 : pj_DR := (154, fun r => match r with
  | a :: b :: _ => some (.ifCond .ne (Reader.signed 16 (a.toNat * 256 + b.toNat)), 3)
  | _ => none)
theorem pj_k154 : pj_dok pj_r154 := by
  intro code pc r i n hb h
  match r, hb, h with
  | [], hb, h => cases h
  | [_], hb, h => cases h
  | a :: b :: r, hb, h =>
    cases h
    exact dk_154 a b (pj_dk (a := [154, a, b]) hb)
def pj_r155 : pj_DR := (155, fun r => match r with
  | a :: b :: _ => some (.ifCond .lt (Reader.signed 16 (a.toNat * 256 + b.toNat)), 3)
  | _ => none)
theorem pj_k155 : pj_dok pj_r155 := by
  intro code pc r i n hb h
  match r, hb, h with
  | [], hb, h => cases h
  | [_], hb, h => cases h
  | a :: b :: r, hb, h =>
    cases h
    exact dk_155 a b (pj_dk (a := [155, a, b]) hb)
def pj_r156 : pj_DR := (156, fun r => match r with
  | a :: b :: _ => some (.ifCond .ge (Reader.signed 16 (a.toNat * 256 + b.toNat)), 3)
  | _ => none)
theorem pj_k156 : pj_dok pj_r156 := by
  intro code pc r i n hb h
  match r, hb, h with
  | [], hb, h => cases h
  | [_], hb, h => cases h
  | a :: b :: r, hb, h =>
    cases h
    exact dk_156 a b (pj_dk (a := [156, a, b]) hb)
def pj_r157 : pj_DR := (157, fun r => match r with
  | a :: b :: _ => some (.ifCond .gt (Reader.signed 16 (a.toNat * 256 + b.toNat)), 3)
  | _ => none)
theorem pj_k157 : pj_dok pj_r157 := by
  intro code pc r i n hb h
  match r, hb, h with
  | [], hb, h => cases h
  | [_], hb, h => cases h
  | a :: b :: r, hb, h =>
    cases h
    exact dk_157 a b (pj_dk (a := [157, a, b]) hb)
def pj_r158 : pj_DR := (158, fun r => match r with
  | a :: b :: _ => some (.ifCond .le (Reader.signed 16 (a.toNat * 256 + b.toNat)), 3)
  | _ => none)
theorem pj_k158 : pj_dok pj_r158 := by
  intro code pc r i n hb h
  match r, hb, h with
  | [], hb, h => cases h
  | [_], hb, h => cases h
  | a :: b :: r, hb, h =>
    cases h
    exact dk_158 a b (pj_dk (a := [158, a, b]) hb)
def pj_r159 : pj_DR := (159, fun r => match r with
  | a :: b :: _ => some (.if_icmp .eq (Reader.signed 16 (a.toNat * 256 + b.toNat)), 3)
  | _ => none)
theorem pj_k159 : pj_dok pj_r159 := by
  intro code pc r i n hb h
  match r, hb, h with
  | [], hb, h => cases h
  | [_], hb, h => cases h
  | a :: b :: r, hb, h =>
    cases h
    exact dk_159 a b (pj_dk (a := [159, a, b]) hb)
def pj_r160 : pj_DR := (160, fun r => match r with
  | a :: b :: _ => some (.if_icmp .ne (Reader.signed 16 (a.toNat * 256 + b.toNat)), 3)
  | _ => none)
theorem pj_k160 : pj_dok pj_r160 := by
  intro code pc r i n hb h
  match r, hb, h with
  | [], hb, h => cases h
  | [_], hb, h => cases h
  | a :: b :: r, hb, h =>
    cases h
    exact dk_160 a b (pj_dk (a := [160, a, b]) hb)
def pj_r161 : pj_DR := (161, fun r => match r with
  | a :: b :: _ => some (.if_icmp .lt (Reader.signed 16 (a.toNat * 256 + b.toNat)), 3)
  | _ => none)
theorem pj_k161 : pj_dok pj_r161 := by
  intro code pc r i n hb h
  match r, hb, h with
  | [], hb, h => cases h
  | [_], hb, h => cases h
  | a :: b :: r, hb, h =>
    cases h
    exact dk_161 a b (pj_dk (a := [161, a, b]) hb)
def pj_r162 : pj_DR := (162, fun r => match r with
  | a :: b :: _ => some (.if_icmp .ge (Reader.signed 16 (a.toNat * 256 + b.toNat)), 3)
  | _ => none)
theorem pj_k162 : pj_dok pj_r162 := by
  intro code pc r i n hb h
  match r, hb, h with
  | [], hb, h => cases h
  | [_], hb, h => cases h
  | a :: b :: r, hb, h =>
    cases h
    exact dk_162 a b (pj_dk (a := [162, a, b]) hb)
def pj_r163 : pj_DR := (163, fun r => match r with
  | a :: b :: _ => some (.if_icmp .gt (Reader.signed 16 (a.toNat * 256 + b.toNat)), 3)
  | _ => none)
theorem pj_k163 : pj_dok pj_r163 := by
  intro code pc r i n hb h
  match r, hb, h with
  | [], hb, h => cases h
  | [_], hb, h => cases h
  | a :: b :: r, hb, h =>
    cases h
    exact dk_163 a b (pj_dk (a := [163, a, b]) hb)
def pj_r164 : pj_DR := (164, fun r => match r with
  | a :: b :: _ => some (.if_icmp .le (Reader.signed 16 (a.toNat * 256 + b.toNat)), 3)
  | _ => none)
theorem pj_k164 : pj_dok pj_r164 := by
  intro code pc r i n hb h
  match r, hb, h with
  | [], hb, h => cases h
  | [_], hb, h => cases h
  | a :: b :: r, hb, h =>
    cases h
    exact dk_164 a b (pj_dk (a := [164, a, b]) hb)
def pj_r165 : pj_DR := (165, fun r => match r with
  | a :: b :: _ => some (.if_acmp .eq (Reader.signed 16 (a.toNat * 256 + b.toNat)), 3)
  | _ => none)
theorem pj_k165 : pj_dok pj_r165 := by
  intro code pc r i n hb h
  match r, hb, h with
  | [], hb, h => cases h
  | [_], hb, h => cases h
  | a :: b :: r, hb, h =>
    cases h
    exact dk_165 a b (pj_dk (a := [165, a, b]) hb)
def pj_r166 : pj_DR := (166, fun r => match r with
  | a :: b :: _ => some (.if_acmp .ne (Reader.signed 16 (a.toNat * 256 + b.toNat)), 3)
  | _ => none)
theorem pj_k166 : pj_dok pj_r166 := by
  intro code pc r i n hb h
  match r, hb, h with
  | [], hb, h => cases h
  | [_], hb, h => cases h
  | a :: b :: r, hb, h =>
    cases h
    exact dk_166 a b (pj_dk (a := [166, a, b]) hb)
def pj_r167 : pj_DR := (167, fun r => match r with
  | a :: b :: _ => some (.goto (Reader.signed 16 (a.toNat * 256 + b.toNat)), 3)
  | _ => none)
theorem pj_k167 : pj_dok pj_r167 := by
  intro code pc r i n hb h
  match r, hb, h with
  | [], hb, h => cases h
  | [_], hb, h => cases h
  | a :: b :: r, hb, h =>
    cases h
    exact dk_167 a b (pj_dk (a := [167, a, b]) hb)
def pj_r172 : pj_DR := (172, fun _ => some (.ireturn, 1))
theorem pj_k172 : pj_dok pj_r172 := by
  intro code pc r i n hb h
  cases h
  exact dk_172 (pj_dk (a := [172]) hb)
def pj_r173 : pj_DR := (173, fun _ => some (.lreturn, 1))
theorem pj_k173 : pj_dok pj_r173 := by
  intro code pc r i n hb h
  cases h
  exact dk_173 (pj_dk (a := [173]) hb)
def pj_r176 : pj_DR := (176, fun _ => some (.areturn, 1))
theorem pj_k176 : pj_dok pj_r176 := by
  intro code pc r i n hb h
  cases h
  exact dk_176 (pj_dk (a := [176]) hb)
def pj_r177 : pj_DR := (177, fun _ => some (.return_, 1))
theorem pj_k177 : pj_dok pj_r177 := by
  intro code pc r i n hb h
  cases h
  exact dk_177 (pj_dk (a := [177]) hb)
def pj_r178 : pj_DR := (178, fun r => match r with
  | a :: b :: _ => some (.getstatic (a.toNat * 256 + b.toNat), 3)
  | _ => none)
theorem pj_k178 : pj_dok pj_r178 := by
  intro code pc r i n hb h
  match r, hb, h with
  | [], hb, h => cases h
  | [_], hb, h => cases h
  | a :: b :: r, hb, h =>
    cases h
    exact dk_178 a b (pj_dk (a := [178, a, b]) hb)
def pj_r180 : pj_DR := (180, fun r => match r with
  | a :: b :: _ => some (.getfield (a.toNat * 256 + b.toNat), 3)
  | _ => none)
theorem pj_k180 : pj_dok pj_r180 := by
  intro code pc r i n hb h
  match r, hb, h with
  | [], hb, h => cases h
  | [_], hb, h => cases h
  | a :: b :: r, hb, h =>
    cases h
    exact dk_180 a b (pj_dk (a := [180, a, b]) hb)
def pj_r181 : pj_DR := (181, fun r => match r with
  | a :: b :: _ => some (.putfield (a.toNat * 256 + b.toNat), 3)
  | _ => none)
theorem pj_k181 : pj_dok pj_r181 := by
  intro code pc r i n hb h
  match r, hb, h with
  | [], hb, h => cases h
  | [_], hb, h => cases h
  | a :: b :: r, hb, h =>
    cases h
    exact dk_181 a b (pj_dk (a := [181, a, b]) hb)
def pj_r182 : pj_DR := (182, fun r => match r with
  | a :: b :: _ => some (.invokevirtual (a.toNat * 256 + b.toNat), 3)
  | _ => none)
theorem pj_k182 : pj_dok pj_r182 := by
  intro code pc r i n hb h
  match r, hb, h with
  | [], hb, h => cases h
  | [_], hb, h => cases h
  | a :: b :: r, hb, h =>
    cases h
    exact dk_182 a b (pj_dk (a := [182, a, b]) hb)
def pj_r183 : pj_DR := (183, fun r => match r with
  | a :: b :: _ => some (.invokespecial (a.toNat * 256 + b.toNat), 3)
  | _ => none)
theorem pj_k183 : pj_dok pj_r183 := by
  intro code pc r i n hb h
  match r, hb, h with
  | [], hb, h => cases h
  | [_], hb, h => cases h
  | a :: b :: r, hb, h =>
    cases h
    exact dk_183 a b (pj_dk (a := [183, a, b]) hb)
def pj_r184 : pj_DR := (184, fun r => match r with
  | a :: b :: _ => some (.invokestatic (a.toNat * 256 + b.toNat), 3)
  | _ => none)
theorem pj_k184 : pj_dok pj_r184 := by
  intro code pc r i n hb h
  match r, hb, h with
  | [], hb, h => cases h
  | [_], hb, h => cases h
  | a :: b :: r, hb, h =>
    cases h
    exact dk_184 a b (pj_dk (a := [184, a, b]) hb)
def pj_r187 : pj_DR := (187, fun r => match r with
  | a :: b :: _ => some (.new (a.toNat * 256 + b.toNat), 3)
  | _ => none)
theorem pj_k187 : pj_dok pj_r187 := by
  intro code pc r i n hb h
  match r, hb, h with
  | [], hb, h => cases h
  | [_], hb, h => cases h
  | a :: b :: r, hb, h =>
    cases h
    exact dk_187 a b (pj_dk (a := [187, a, b]) hb)
def pj_f188 : List UInt8 → Option (Instr × Nat)
  | 4 :: _ => some (.newarray .boolean, 2)
  | 8 :: _ => some (.newarray .byte, 2)
  | 10 :: _ => some (.newarray .int, 2)
  | 11 :: _ => some (.newarray .long, 2)
  | _ => none
def pj_r188 : pj_DR := (188, pj_f188)
theorem pj_k188 : pj_dok pj_r188 := by
  intro code pc r i n hb h
  have h : pj_f188 r = some (i, n) := h
  unfold pj_f188 at h
  split at h
  · cases h; exact dk_188_4 (pj_dk (a := [188, 4]) hb)
  · cases h; exact dk_188_8 (pj_dk (a := [188, 8]) hb)
  · cases h; exact dk_188_10 (pj_dk (a := [188, 10]) hb)
  · cases h; exact dk_188_11 (pj_dk (a := [188, 11]) hb)
  · cases h
def pj_r189 : pj_DR := (189, fun r => match r with
  | a :: b :: _ => some (.anewarray (a.toNat * 256 + b.toNat), 3)
  | _ => none)
theorem pj_k189 : pj_dok pj_r189 := by
  intro code pc r i n hb h
  match r, hb, h with
  | [], hb, h => cases h
  | [_], hb, h => cases h
  | a :: b :: r, hb, h =>
    cases h
    exact dk_189 a b (pj_dk (a := [189, a, b]) hb)
def pj_r190 : pj_DR := (190, fun _ => some (.arraylength, 1))
theorem pj_k190 : pj_dok pj_r190 := by
  intro code pc r i n hb h
  cases h
  exact dk_190 (pj_dk (a := [190]) hb)
def pj_r191 : pj_DR := (191, fun _ => some (.athrow, 1))
theorem pj_k191 : pj_dok pj_r191 := by
  intro code pc r i n hb h
  cases h
  exact dk_191 (pj_dk (a := [191]) hb)
def pj_r192 : pj_DR := (192, fun r => match r with
  | a :: b :: _ => some (.checkcast (a.toNat * 256 + b.toNat), 3)
  | _ => none)
theorem pj_k192 : pj_dok pj_r192 := by
  intro code pc r i n hb h
  match r, hb, h with
  | [], hb, h => cases h
  | [_], hb, h => cases h
  | a :: b :: r, hb, h =>
    cases h
    exact dk_192 a b (pj_dk (a := [192, a, b]) hb)
def pj_r193 : pj_DR := (193, fun r => match r with
  | a :: b :: _ => some (.instanceof (a.toNat * 256 + b.toNat), 3)
  | _ => none)
theorem pj_k193 : pj_dok pj_r193 := by
  intro code pc r i n hb h
  match r, hb, h with
  | [], hb, h => cases h
  | [_], hb, h => cases h
  | a :: b :: r, hb, h =>
    cases h
    exact dk_193 a b (pj_dk (a := [193, a, b]) hb)
def pj_r198 : pj_DR := (198, fun r => match r with
  | a :: b :: _ => some (.ifnull (Reader.signed 16 (a.toNat * 256 + b.toNat)), 3)
  | _ => none)
theorem pj_k198 : pj_dok pj_r198 := by
  intro code pc r i n hb h
  match r, hb, h with
  | [], hb, h => cases h
  | [_], hb, h => cases h
  | a :: b :: r, hb, h =>
    cases h
    exact dk_198 a b (pj_dk (a := [198, a, b]) hb)
def pj_r199 : pj_DR := (199, fun r => match r with
  | a :: b :: _ => some (.ifnonnull (Reader.signed 16 (a.toNat * 256 + b.toNat)), 3)
  | _ => none)
theorem pj_k199 : pj_dok pj_r199 := by
  intro code pc r i n hb h
  match r, hb, h with
  | [], hb, h => cases h
  | [_], hb, h => cases h
  | a :: b :: r, hb, h =>
    cases h
    exact dk_199 a b (pj_dk (a := [199, a, b]) hb)
def pj_dt : List pj_DR := [pj_r1, pj_r2, pj_r3, pj_r4, pj_r5, pj_r6, pj_r7, pj_r8, pj_r9, pj_r10, pj_r16, pj_r17, pj_r18, pj_r19, pj_r20, pj_r21, pj_r22, pj_r23, pj_r25, pj_r26, pj_r27, pj_r28, pj_r29, pj_r30, pj_r31, pj_r32, pj_r33, pj_r42, pj_r43, pj_r44, pj_r45, pj_r46, pj_r47, pj_r50, pj_r51, pj_r52, pj_r53, pj_r54, pj_r55, pj_r56, pj_r58, pj_r59, pj_r60, pj_r61, pj_r62, pj_r65, pj_r66, pj_r75, pj_r76, pj_r77, pj_r78, pj_r79, pj_r80, pj_r83, pj_r84, pj_r87, pj_r89, pj_r90, pj_r91, pj_r92, pj_r96, pj_r97, pj_r100, pj_r101, pj_r104, pj_r105, pj_r106, pj_r108, pj_r109, pj_r112, pj_r113, pj_r116, pj_r117, pj_r120, pj_r121, pj_r122, pj_r123, pj_r124, pj_r125, pj_r126, pj_r127, pj_r128, pj_r129, pj_r130, pj_r131, pj_r132, pj_r133, pj_r134, pj_r136, pj_r139, pj_r145, pj_r146, pj_r148, pj_r150, pj_r153, pj_r154, pj_r155, pj_r156, pj_r157, pj_r158, pj_r159, pj_r160, pj_r161, pj_r162, pj_r163, pj_r164, pj_r165, pj_r166, pj_r167, pj_r172, pj_r173, pj_r176, pj_r177, pj_r178, pj_r180, pj_r181, pj_r182, pj_r183, pj_r184, pj_r187, pj_r188, pj_r189, pj_r190, pj_r191, pj_r192, pj_r193, pj_r198, pj_r199]
theorem pj_dt_ok : ∀ q ∈ pj_dt, pj_dok q := List.forall_mem_cons.mpr ⟨pj_k1, List.forall_mem_cons.mpr ⟨pj_k2, List.forall_mem_cons.mpr ⟨pj_k3, List.forall_mem_cons.mpr ⟨pj_k4, List.forall_mem_cons.mpr ⟨pj_k5, List.forall_mem_cons.mpr ⟨pj_k6, List.forall_mem_cons.mpr ⟨pj_k7, List.forall_mem_cons.mpr ⟨pj_k8, List.forall_mem_cons.mpr ⟨pj_k9, List.forall_mem_cons.mpr ⟨pj_k10, List.forall_mem_cons.mpr ⟨pj_k16, List.forall_mem_cons.mpr ⟨pj_k17, List.forall_mem_cons.mpr ⟨pj_k18, List.forall_mem_cons.mpr ⟨pj_k19, List.forall_mem_cons.mpr ⟨pj_k20, List.forall_mem_cons.mpr ⟨pj_k21, List.forall_mem_cons.mpr ⟨pj_k22, List.forall_mem_cons.mpr ⟨pj_k23, List.forall_mem_cons.mpr ⟨pj_k25, List.forall_mem_cons.mpr ⟨pj_k26, List.forall_mem_cons.mpr ⟨pj_k27, List.forall_mem_cons.mpr ⟨pj_k28, List.forall_mem_cons.mpr ⟨pj_k29, List.forall_mem_cons.mpr ⟨pj_k30, List.forall_mem_cons.mpr ⟨pj_k31, List.forall_mem_cons.mpr ⟨pj_k32, List.forall_mem_cons.mpr ⟨pj_k33, List.forall_mem_cons.mpr ⟨pj_k42, List.forall_mem_cons.mpr ⟨pj_k43, List.forall_mem_cons.mpr ⟨pj_k44, List.forall_mem_cons.mpr ⟨pj_k45, List.forall_mem_cons.mpr ⟨pj_k46, List.forall_mem_cons.mpr ⟨pj_k47, List.forall_mem_cons.mpr ⟨pj_k50, List.forall_mem_cons.mpr ⟨pj_k51, List.forall_mem_cons.mpr ⟨pj_k52, List.forall_mem_cons.mpr ⟨pj_k53, List.forall_mem_cons.mpr ⟨pj_k54, List.forall_mem_cons.mpr ⟨pj_k55, List.forall_mem_cons.mpr ⟨pj_k56, List.forall_mem_cons.mpr ⟨pj_k58, List.forall_mem_cons.mpr ⟨pj_k59, List.forall_mem_cons.mpr ⟨pj_k60, List.forall_mem_cons.mpr ⟨pj_k61, List.forall_mem_cons.mpr ⟨pj_k62, List.forall_mem_cons.mpr ⟨pj_k65, List.forall_mem_cons.mpr ⟨pj_k66, List.forall_mem_cons.mpr ⟨pj_k75, List.forall_mem_cons.mpr ⟨pj_k76, List.forall_mem_cons.mpr ⟨pj_k77, List.forall_mem_cons.mpr ⟨pj_k78, List.forall_mem_cons.mpr ⟨pj_k79, List.forall_mem_cons.mpr ⟨pj_k80, List.forall_mem_cons.mpr ⟨pj_k83, List.forall_mem_cons.mpr ⟨pj_k84, List.forall_mem_cons.mpr ⟨pj_k87, List.forall_mem_cons.mpr ⟨pj_k89, List.forall_mem_cons.mpr ⟨pj_k90, List.forall_mem_cons.mpr ⟨pj_k91, List.forall_mem_cons.mpr ⟨pj_k92, List.forall_mem_cons.mpr ⟨pj_k96, List.forall_mem_cons.mpr ⟨pj_k97, List.forall_mem_cons.mpr ⟨pj_k100, List.forall_mem_cons.mpr ⟨pj_k101, List.forall_mem_cons.mpr ⟨pj_k104, List.forall_mem_cons.mpr ⟨pj_k105, List.forall_mem_cons.mpr ⟨pj_k106, List.forall_mem_cons.mpr ⟨pj_k108, List.forall_mem_cons.mpr ⟨pj_k109, List.forall_mem_cons.mpr ⟨pj_k112, List.forall_mem_cons.mpr ⟨pj_k113, List.forall_mem_cons.mpr ⟨pj_k116, List.forall_mem_cons.mpr ⟨pj_k117, List.forall_mem_cons.mpr ⟨pj_k120, List.forall_mem_cons.mpr ⟨pj_k121, List.forall_mem_cons.mpr ⟨pj_k122, List.forall_mem_cons.mpr ⟨pj_k123, List.forall_mem_cons.mpr ⟨pj_k124, List.forall_mem_cons.mpr ⟨pj_k125, List.forall_mem_cons.mpr ⟨pj_k126, List.forall_mem_cons.mpr ⟨pj_k127, List.forall_mem_cons.mpr ⟨pj_k128, List.forall_mem_cons.mpr ⟨pj_k129, List.forall_mem_cons.mpr ⟨pj_k130, List.forall_mem_cons.mpr ⟨pj_k131, List.forall_mem_cons.mpr ⟨pj_k132, List.forall_mem_cons.mpr ⟨pj_k133, List.forall_mem_cons.mpr ⟨pj_k134, List.forall_mem_cons.mpr ⟨pj_k136, List.forall_mem_cons.mpr ⟨pj_k139, List.forall_mem_cons.mpr ⟨pj_k145, List.forall_mem_cons.mpr ⟨pj_k146, List.forall_mem_cons.mpr ⟨pj_k148, List.forall_mem_cons.mpr ⟨pj_k150, List.forall_mem_cons.mpr ⟨pj_k153, List.forall_mem_cons.mpr ⟨pj_k154, List.forall_mem_cons.mpr ⟨pj_k155, List.forall_mem_cons.mpr ⟨pj_k156, List.forall_mem_cons.mpr ⟨pj_k157, List.forall_mem_cons.mpr ⟨pj_k158, List.forall_mem_cons.mpr ⟨pj_k159, List.forall_mem_cons.mpr ⟨pj_k160, List.forall_mem_cons.mpr ⟨pj_k161, List.forall_mem_cons.mpr ⟨pj_k162, List.forall_mem_cons.mpr ⟨pj_k163, List.forall_mem_cons.mpr ⟨pj_k164, List.forall_mem_cons.mpr ⟨pj_k165, List.forall_mem_cons.mpr ⟨pj_k166, List.forall_mem_cons.mpr ⟨pj_k167, List.forall_mem_cons.mpr ⟨pj_k172, List.forall_mem_cons.mpr ⟨pj_k173, List.forall_mem_cons.mpr ⟨pj_k176, List.forall_mem_cons.mpr ⟨pj_k177, List.forall_mem_cons.mpr ⟨pj_k178, List.forall_mem_cons.mpr ⟨pj_k180, List.forall_mem_cons.mpr ⟨pj_k181, List.forall_mem_cons.mpr ⟨pj_k182, List.forall_mem_cons.mpr ⟨pj_k183, List.forall_mem_cons.mpr ⟨pj_k184, List.forall_mem_cons.mpr ⟨pj_k187, List.forall_mem_cons.mpr ⟨pj_k188, List.forall_mem_cons.mpr ⟨pj_k189, List.forall_mem_cons.mpr ⟨pj_k190, List.forall_mem_cons.mpr ⟨pj_k191, List.forall_mem_cons.mpr ⟨pj_k192, List.forall_mem_cons.mpr ⟨pj_k193, List.forall_mem_cons.mpr ⟨pj_k198, List.forall_mem_cons.mpr ⟨pj_k199, List.forall_mem_nil _⟩⟩⟩⟩⟩⟩⟩⟩⟩⟩⟩⟩⟩⟩⟩⟩⟩⟩⟩⟩⟩⟩⟩⟩⟩⟩⟩⟩⟩⟩⟩⟩⟩⟩⟩⟩⟩⟩⟩⟩⟩⟩⟩⟩⟩⟩⟩⟩⟩⟩⟩⟩⟩⟩⟩⟩⟩⟩⟩⟩⟩⟩⟩⟩⟩⟩⟩⟩⟩⟩⟩⟩⟩⟩⟩⟩⟩⟩⟩⟩⟩⟩⟩⟩⟩⟩⟩⟩⟩⟩⟩⟩⟩⟩⟩⟩⟩⟩⟩⟩⟩⟩⟩⟩⟩⟩⟩⟩⟩⟩⟩⟩⟩⟩⟩⟩⟩⟩⟩⟩⟩⟩⟩⟩⟩⟩⟩⟩
def pj_dec (bs : List UInt8) : Option (Instr × Nat) := match bs with
  | [] => none
  | b :: r => match pj_dt.find? (fun q => q.1 == b) with
    | some q => q.2 r
    | none => none
theorem pj_dec_ok {code : ByteArray} {pc : Nat} {bs : List UInt8} {i : Instr} {n : Nat} (hb : code.data.toList.drop pc = bs) (h : pj_dec bs = some (i, n)) : decode code pc = .ok (i, n) := by
  unfold pj_dec at h
  match bs, hb, h with
  | [], _, h => cases h
  | b :: r, hb, h =>
    dsimp only at h
    split at h
    · rename_i q hq
      have h1 := List.find?_some hq
      have h2 := List.mem_of_find?_eq_some hq
      have h3 : q.1 = b := by simpa using h1
      exact pj_dt_ok q h2 code pc r i n (by rw [h3]; exact hb) h
    · cases h
