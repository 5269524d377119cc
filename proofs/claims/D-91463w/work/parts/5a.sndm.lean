/-! SOUNDNESS TABLES 2: the methods -/
set_option maxRecDepth 100000
def rkq (rk : Nat) (ret : Option FieldType) : Prop := match rk with
  | 0 => ret = none
  | 1 => ret = some .int
  | 2 => ret = some .boolean
  | 3 => ret = some .long
  | 4 => ret = some .float
  | 6 => ret = some .char
  | 7 => ret = some .byte
  | _ => ∃ f, ret = some f ∧ ((∃ n, f = .object n) ∨ ∃ t, f = .array t)
/-- the handlers, with the thrown sort for the class -/
def HHq (own : String) : List (Nat × Nat × Nat × Nat) → List (Nat × Nat × Nat × Nat) → Prop
  | [], [] => True
  | a :: l, b :: r => (a.1 = b.1 ∧ a.2.1 = b.2.1 ∧ a.2.2.1 = b.2.2.1 ∧ Cond.classLink own b.2.2.2 (XN a.2.2.2) ∈ lw_all ∧ Cond.castable (XN a.2.2.2) (XN a.2.2.2) ∈ lw_tbl ∧ b.2.2.2 ≠ 0) ∧ HHq own l r
  | _, _ => False
/-- the method of a number -/
def ROWN : List Nat := [0, 1, 4, 5, 9, 11, 14, 15, 20, 21, 22, 23, 24, 25, 26, 27, 28, 29, 30, 31, 32, 33, 34, 35, 36, 37, 38, 39, 40, 41, 42, 43, 44, 45, 46, 47, 48, 49]
def MK (o : Nat) (M : Mi) (q : Mq) : Prop := ROWN.contains o = true ∧ ((am_cd M).all fun l => l.all fun z => am_chk q.2.1 z) = true ∧ ((am_cd M).all fun l => l.all fun z => am_wfq o q.2.2.1 z) = true ∧ am_ow M = o ∧ ownS o = q.1.cls ∧ am_nl M = q.2.2.1 ∧ (am_ct M = true → q.1.name = "<init>") ∧ rkq (am_rk M) q.2.2.2.1 ∧ plainFor q.1 = true ∧ wq q ∈ lw_all ∧ HHq q.1.cls (am_hh M) q.2.2.2.2
def MX (mid : Nat) (q : Mq) : Prop := ∃ M, am_G mid = some M ∧ MK (mid / 256) M q
def MOKr (o : Nat) (own : String) (i : Nat) (r : Nat × Nat × List (Nat × Nat)) : Prop := ROWN.contains o = true → ∀ x ∈ r.2.2, x.2 < 20000 → ∃ q, MX x.2 q ∧ match r.2.1 with
  | 0 => CALLS own i r.1 q
  | 2 => CALLI own i (r.1 - 1) q
  | _ => CALLV own i (r.1 - 1) x.1 q ∨ (own = "java/util/ArrayList" ∧ i = 42)
theorem q145 : (Jvm.Cond.initialized "java/util/AbstractCollection") ∈ lw_all := lw_g (lw_at lw_m1 3 rfl) rfl
theorem q146 : (Jvm.Cond.initialized "java/util/AbstractList") ∈ lw_all := lw_g (lw_at lw_m1 4 rfl) rfl
theorem q156 : (Jvm.Cond.initialized "java/lang/Math") ∈ lw_all := lw_g (lw_at lw_m1 14 rfl) rfl
theorem q157 : (Jvm.Cond.initialized "OldWeather$Reading") ∈ lw_all := lw_g (lw_at lw_m1 15 rfl) rfl
theorem q159 : (Jvm.Cond.initialized "jdk/internal/util/ArraysSupport") ∈ lw_all := lw_g (lw_at lw_m1 17 rfl) rfl
theorem q172 : (Jvm.Cond.initialized "java/util/Objects") ∈ lw_all := lw_g (lw_at lw_m1 30 rfl) rfl
theorem q173 : (Jvm.Cond.initialized "jdk/internal/util/Preconditions") ∈ lw_all := lw_g (lw_at lw_m1 31 rfl) rfl
theorem q180 : (Jvm.Cond.initialized "OldWeather$Sum") ∈ lw_all := lw_g (lw_at lw_m1 38 rfl) rfl
theorem q185 : (Jvm.Cond.initialized "OldWeather$Test") ∈ lw_all := lw_g (lw_at lw_m1 43 rfl) rfl
theorem q191 : (Jvm.Cond.initialized "java/lang/Integer") ∈ lw_all := lw_g (lw_at lw_m1 49 rfl) rfl
theorem q196 : (Jvm.Cond.code ({ cls := "OldWeather", name := "<init>", desc := "()V" } : Jvm.MethodName) prog_1_method_1_code (1 : Nat) (Option.none : Option Jvm.ClassFile.FieldType)) ∈ lw_all := lw_g (lw_at lw_m1 54 rfl) rfl
theorem q202 : (Jvm.Cond.methodLink "OldWeather" (11 : Nat) ({ cls := "OldWeather$Told", name := "<init>", desc := "()V" } : Jvm.MethodName)) ∈ lw_all := lw_g (lw_at lw_m1 60 rfl) rfl
theorem q203 : (Jvm.Cond.instanceMethod ({ cls := "OldWeather$Told", name := "<init>", desc := "()V" } : Jvm.MethodName)) ∈ lw_all := lw_g (lw_at lw_m1 61 rfl) rfl
theorem q204 : (Jvm.Cond.code ({ cls := "OldWeather$Told", name := "<init>", desc := "()V" } : Jvm.MethodName) prog_26_method_1_code (2 : Nat) (Option.none : Option Jvm.ClassFile.FieldType)) ∈ lw_all := lw_g (lw_at lw_m1 62 rfl) rfl
theorem q208 : (Jvm.Cond.methodLink "OldWeather$Told" (11 : Nat) ({ cls := "java/util/ArrayList", name := "<init>", desc := "(I)V" } : Jvm.MethodName)) ∈ lw_all := lw_g (lw_at lw_m1 66 rfl) rfl
theorem q209 : (Jvm.Cond.instanceMethod ({ cls := "java/util/ArrayList", name := "<init>", desc := "(I)V" } : Jvm.MethodName)) ∈ lw_all := lw_g (lw_at lw_m1 67 rfl) rfl
theorem q210 : (Jvm.Cond.code ({ cls := "java/util/ArrayList", name := "<init>", desc := "(I)V" } : Jvm.MethodName) prog_54_method_1_code (2 : Nat) (Option.none : Option Jvm.ClassFile.FieldType)) ∈ lw_all := lw_g (lw_at lw_m1 68 rfl) rfl
theorem q211 : (Jvm.Cond.methodLink "java/util/ArrayList" (1 : Nat) ({ cls := "java/util/AbstractList", name := "<init>", desc := "()V" } : Jvm.MethodName)) ∈ lw_all := lw_g (lw_at lw_m1 69 rfl) rfl
theorem q212 : (Jvm.Cond.instanceMethod ({ cls := "java/util/AbstractList", name := "<init>", desc := "()V" } : Jvm.MethodName)) ∈ lw_all := lw_g (lw_at lw_m1 70 rfl) rfl
theorem q213 : (Jvm.Cond.code ({ cls := "java/util/AbstractList", name := "<init>", desc := "()V" } : Jvm.MethodName) prog_53_method_1_code (1 : Nat) (Option.none : Option Jvm.ClassFile.FieldType)) ∈ lw_all := lw_g (lw_at lw_m1 71 rfl) rfl
theorem q214 : (Jvm.Cond.methodLink "java/util/AbstractList" (1 : Nat) ({ cls := "java/util/AbstractCollection", name := "<init>", desc := "()V" } : Jvm.MethodName)) ∈ lw_all := lw_g (lw_at lw_m1 72 rfl) rfl
theorem q215 : (Jvm.Cond.instanceMethod ({ cls := "java/util/AbstractCollection", name := "<init>", desc := "()V" } : Jvm.MethodName)) ∈ lw_all := lw_g (lw_at lw_m1 73 rfl) rfl
theorem q216 : (Jvm.Cond.code ({ cls := "java/util/AbstractCollection", name := "<init>", desc := "()V" } : Jvm.MethodName) prog_52_method_1_code (1 : Nat) (Option.none : Option Jvm.ClassFile.FieldType)) ∈ lw_all := lw_g (lw_at lw_m1 74 rfl) rfl
theorem q330 : (Jvm.Cond.methodLinkNest "OldWeather" (40 : Nat) ({ cls := "OldWeather$Force", name := "<init>", desc := "(LOldWeather;)V" } : Jvm.MethodName) "OldWeather") ∈ lw_tbl := lw_at lw_m1 188 rfl
theorem q331 : (Jvm.Cond.instanceMethod ({ cls := "OldWeather$Force", name := "<init>", desc := "(LOldWeather;)V" } : Jvm.MethodName)) ∈ lw_all := lw_g (lw_at lw_m1 189 rfl) rfl
theorem q332 : (Jvm.Cond.code ({ cls := "OldWeather$Force", name := "<init>", desc := "(LOldWeather;)V" } : Jvm.MethodName) prog_11_method_1_code (2 : Nat) (Option.none : Option Jvm.ClassFile.FieldType)) ∈ lw_all := lw_g (lw_at lw_m1 190 rfl) rfl
theorem q363 : (Jvm.Cond.methodLinkNest "OldWeather" (49 : Nat) ({ cls := "OldWeather$Setting", name := "<init>", desc := "()V" } : Jvm.MethodName) "OldWeather") ∈ lw_tbl := lw_at lw_m1 221 rfl
theorem q364 : (Jvm.Cond.instanceMethod ({ cls := "OldWeather$Setting", name := "<init>", desc := "()V" } : Jvm.MethodName)) ∈ lw_all := lw_g (lw_at lw_m1 222 rfl) rfl
theorem q365 : (Jvm.Cond.code ({ cls := "OldWeather$Setting", name := "<init>", desc := "()V" } : Jvm.MethodName) prog_22_method_1_code (1 : Nat) (Option.none : Option Jvm.ClassFile.FieldType)) ∈ lw_all := lw_g (lw_at lw_m1 223 rfl) rfl
theorem q369 : (Jvm.Cond.castable "OldWeather$Broken" "OldWeather$Broken") ∈ lw_tbl := lw_at lw_m1 227 rfl
theorem q407 : (Jvm.Cond.methodLink "OldWeather$Setting" (9 : Nat) ({ cls := "OldWeather$Broken", name := "<init>", desc := "()V" } : Jvm.MethodName)) ∈ lw_all := lw_g (lw_at lw_m2 25 rfl) rfl
theorem q408 : (Jvm.Cond.instanceMethod ({ cls := "OldWeather$Broken", name := "<init>", desc := "()V" } : Jvm.MethodName)) ∈ lw_all := lw_g (lw_at lw_m2 26 rfl) rfl
theorem q409 : (Jvm.Cond.code ({ cls := "OldWeather$Broken", name := "<init>", desc := "()V" } : Jvm.MethodName) prog_3_method_1_code (1 : Nat) (Option.none : Option Jvm.ClassFile.FieldType)) ∈ lw_all := lw_g (lw_at lw_m2 27 rfl) rfl
theorem q464 : (Jvm.Cond.methodLinkNest "OldWeather" (63 : Nat) ({ cls := "OldWeather$Pairs", name := "<init>", desc := "(LOldWeather;)V" } : Jvm.MethodName) "OldWeather") ∈ lw_tbl := lw_at lw_m2 82 rfl
theorem q465 : (Jvm.Cond.instanceMethod ({ cls := "OldWeather$Pairs", name := "<init>", desc := "(LOldWeather;)V" } : Jvm.MethodName)) ∈ lw_all := lw_g (lw_at lw_m2 83 rfl) rfl
theorem q466 : (Jvm.Cond.code ({ cls := "OldWeather$Pairs", name := "<init>", desc := "(LOldWeather;)V" } : Jvm.MethodName) prog_17_method_1_code (2 : Nat) (Option.none : Option Jvm.ClassFile.FieldType)) ∈ lw_all := lw_g (lw_at lw_m2 84 rfl) rfl
theorem q493 : (Jvm.Cond.methodLinkNest "OldWeather" (70 : Nat) ({ cls := "OldWeather$Desk", name := "<init>", desc := "(LOldWeather;)V" } : Jvm.MethodName) "OldWeather") ∈ lw_tbl := lw_at lw_m2 111 rfl
theorem q494 : (Jvm.Cond.instanceMethod ({ cls := "OldWeather$Desk", name := "<init>", desc := "(LOldWeather;)V" } : Jvm.MethodName)) ∈ lw_all := lw_g (lw_at lw_m2 112 rfl) rfl
theorem q495 : (Jvm.Cond.code ({ cls := "OldWeather$Desk", name := "<init>", desc := "(LOldWeather;)V" } : Jvm.MethodName) prog_7_method_1_code (2 : Nat) (Option.none : Option Jvm.ClassFile.FieldType)) ∈ lw_all := lw_g (lw_at lw_m2 113 rfl) rfl
theorem q710 : (Jvm.Cond.code ({ cls := "OldWeather", name := "day", desc := "(IIII)I" } : Jvm.MethodName) prog_1_method_13_code (6 : Nat) (Option.some Jvm.ClassFile.FieldType.int)) ∈ lw_all := lw_g (lw_at lw_m3 88 rfl) rfl
theorem q711 : (Jvm.Cond.methodLink "OldWeather" (125 : Nat) ({ cls := "OldWeather", name := "in", desc := "(III)Z" } : Jvm.MethodName)) ∈ lw_all := lw_g (lw_at lw_m3 89 rfl) rfl
theorem q712 : (Jvm.Cond.static ({ cls := "OldWeather", name := "in", desc := "(III)Z" } : Jvm.MethodName)) ∈ lw_all := lw_g (lw_at lw_m3 90 rfl) rfl
theorem q713 : (Jvm.Cond.code ({ cls := "OldWeather", name := "in", desc := "(III)Z" } : Jvm.MethodName) prog_1_method_5_code (3 : Nat) (Option.some Jvm.ClassFile.FieldType.boolean)) ∈ lw_all := lw_g (lw_at lw_m3 91 rfl) rfl
theorem q714 : (Jvm.Cond.methodLink "OldWeather" (142 : Nat) ({ cls := "OldWeather", name := "isDate", desc := "(IIII)Z" } : Jvm.MethodName)) ∈ lw_all := lw_g (lw_at lw_m3 92 rfl) rfl
theorem q715 : (Jvm.Cond.static ({ cls := "OldWeather", name := "isDate", desc := "(IIII)Z" } : Jvm.MethodName)) ∈ lw_all := lw_g (lw_at lw_m3 93 rfl) rfl
theorem q716 : (Jvm.Cond.code ({ cls := "OldWeather", name := "isDate", desc := "(IIII)Z" } : Jvm.MethodName) prog_1_method_10_code (4 : Nat) (Option.some Jvm.ClassFile.FieldType.boolean)) ∈ lw_all := lw_g (lw_at lw_m3 94 rfl) rfl
theorem q717 : (Jvm.Cond.methodLink "OldWeather" (134 : Nat) ({ cls := "OldWeather", name := "daysOf", desc := "(III)I" } : Jvm.MethodName)) ∈ lw_all := lw_g (lw_at lw_m3 95 rfl) rfl
theorem q718 : (Jvm.Cond.static ({ cls := "OldWeather", name := "daysOf", desc := "(III)I" } : Jvm.MethodName)) ∈ lw_all := lw_g (lw_at lw_m3 96 rfl) rfl
theorem q719 : (Jvm.Cond.code ({ cls := "OldWeather", name := "daysOf", desc := "(III)I" } : Jvm.MethodName) prog_1_method_9_code (3 : Nat) (Option.some Jvm.ClassFile.FieldType.int)) ∈ lw_all := lw_g (lw_at lw_m3 97 rfl) rfl
theorem q720 : (Jvm.Cond.methodLink "OldWeather" (130 : Nat) ({ cls := "OldWeather", name := "isLong", desc := "(II)Z" } : Jvm.MethodName)) ∈ lw_all := lw_g (lw_at lw_m3 98 rfl) rfl
theorem q721 : (Jvm.Cond.static ({ cls := "OldWeather", name := "isLong", desc := "(II)Z" } : Jvm.MethodName)) ∈ lw_all := lw_g (lw_at lw_m3 99 rfl) rfl
theorem q722 : (Jvm.Cond.code ({ cls := "OldWeather", name := "isLong", desc := "(II)Z" } : Jvm.MethodName) prog_1_method_8_code (2 : Nat) (Option.some Jvm.ClassFile.FieldType.boolean)) ∈ lw_all := lw_g (lw_at lw_m3 100 rfl) rfl
theorem q723 : (Jvm.Cond.methodLink "OldWeather" (146 : Nat) ({ cls := "OldWeather", name := "dayAt", desc := "(IIII)I" } : Jvm.MethodName)) ∈ lw_all := lw_g (lw_at lw_m3 101 rfl) rfl
theorem q724 : (Jvm.Cond.static ({ cls := "OldWeather", name := "dayAt", desc := "(IIII)I" } : Jvm.MethodName)) ∈ lw_all := lw_g (lw_at lw_m3 102 rfl) rfl
theorem q725 : (Jvm.Cond.code ({ cls := "OldWeather", name := "dayAt", desc := "(IIII)I" } : Jvm.MethodName) prog_1_method_12_code (6 : Nat) (Option.some Jvm.ClassFile.FieldType.int)) ∈ lw_all := lw_g (lw_at lw_m3 103 rfl) rfl
theorem q726 : (Jvm.Cond.methodLink "OldWeather" (138 : Nat) ({ cls := "OldWeather", name := "yearBegins", desc := "(II)I" } : Jvm.MethodName)) ∈ lw_all := lw_g (lw_at lw_m3 104 rfl) rfl
theorem q727 : (Jvm.Cond.static ({ cls := "OldWeather", name := "yearBegins", desc := "(II)I" } : Jvm.MethodName)) ∈ lw_all := lw_g (lw_at lw_m3 105 rfl) rfl
theorem q728 : (Jvm.Cond.code ({ cls := "OldWeather", name := "yearBegins", desc := "(II)I" } : Jvm.MethodName) prog_1_method_11_code (4 : Nat) (Option.some Jvm.ClassFile.FieldType.int)) ∈ lw_all := lw_g (lw_at lw_m3 106 rfl) rfl
theorem q729 : (Jvm.Cond.methodLink "OldWeather" (150 : Nat) ({ cls := "OldWeather", name := "isDay", desc := "(I)Z" } : Jvm.MethodName)) ∈ lw_all := lw_g (lw_at lw_m3 107 rfl) rfl
theorem q730 : (Jvm.Cond.static ({ cls := "OldWeather", name := "isDay", desc := "(I)Z" } : Jvm.MethodName)) ∈ lw_all := lw_g (lw_at lw_m3 108 rfl) rfl
theorem q731 : (Jvm.Cond.code ({ cls := "OldWeather", name := "isDay", desc := "(I)Z" } : Jvm.MethodName) prog_1_method_7_code (1 : Nat) (Option.some Jvm.ClassFile.FieldType.boolean)) ∈ lw_all := lw_g (lw_at lw_m3 109 rfl) rfl
theorem q736 : (Jvm.Cond.code ({ cls := "OldWeather", name := "date", desc := "(II)I" } : Jvm.MethodName) prog_1_method_16_code (5 : Nat) (Option.some Jvm.ClassFile.FieldType.int)) ∈ lw_all := lw_g (lw_at lw_m3 114 rfl) rfl
theorem q737 : (Jvm.Cond.methodLink "OldWeather" (159 : Nat) ({ cls := "OldWeather", name := "yearOf", desc := "(II)I" } : Jvm.MethodName)) ∈ lw_all := lw_g (lw_at lw_m3 115 rfl) rfl
theorem q738 : (Jvm.Cond.static ({ cls := "OldWeather", name := "yearOf", desc := "(II)I" } : Jvm.MethodName)) ∈ lw_all := lw_g (lw_at lw_m3 116 rfl) rfl
theorem q739 : (Jvm.Cond.code ({ cls := "OldWeather", name := "yearOf", desc := "(II)I" } : Jvm.MethodName) prog_1_method_14_code (3 : Nat) (Option.some Jvm.ClassFile.FieldType.int)) ∈ lw_all := lw_g (lw_at lw_m3 117 rfl) rfl
theorem q740 : (Jvm.Cond.methodLink "OldWeather" (154 : Nat) ({ cls := "java/lang/Math", name := "max", desc := "(II)I" } : Jvm.MethodName)) ∈ lw_all := lw_g (lw_at lw_m3 118 rfl) rfl
theorem q741 : (Jvm.Cond.static ({ cls := "java/lang/Math", name := "max", desc := "(II)I" } : Jvm.MethodName)) ∈ lw_all := lw_g (lw_at lw_m3 119 rfl) rfl
theorem q742 : (Jvm.Cond.code ({ cls := "java/lang/Math", name := "max", desc := "(II)I" } : Jvm.MethodName) prog_43_method_65_code (2 : Nat) (Option.some Jvm.ClassFile.FieldType.int)) ∈ lw_all := lw_g (lw_at lw_m3 120 rfl) rfl
theorem q743 : (Jvm.Cond.methodLink "OldWeather" (162 : Nat) ({ cls := "OldWeather", name := "monthOf", desc := "(II)I" } : Jvm.MethodName)) ∈ lw_all := lw_g (lw_at lw_m3 121 rfl) rfl
theorem q744 : (Jvm.Cond.static ({ cls := "OldWeather", name := "monthOf", desc := "(II)I" } : Jvm.MethodName)) ∈ lw_all := lw_g (lw_at lw_m3 122 rfl) rfl
theorem q745 : (Jvm.Cond.code ({ cls := "OldWeather", name := "monthOf", desc := "(II)I" } : Jvm.MethodName) prog_1_method_15_code (5 : Nat) (Option.some Jvm.ClassFile.FieldType.int)) ∈ lw_all := lw_g (lw_at lw_m3 123 rfl) rfl
theorem q749 : (Jvm.Cond.code ({ cls := "OldWeather", name := "image", desc := "(I)I" } : Jvm.MethodName) prog_1_method_17_code (2 : Nat) (Option.some Jvm.ClassFile.FieldType.int)) ∈ lw_all := lw_g (lw_at lw_m3 127 rfl) rfl
theorem q750 : (Jvm.Cond.methodLink "OldWeather" (165 : Nat) ({ cls := "OldWeather", name := "refuse", desc := "(I)I" } : Jvm.MethodName)) ∈ lw_all := lw_g (lw_at lw_m3 128 rfl) rfl
theorem q752 : (Jvm.Cond.instanceMethod ({ cls := "OldWeather", name := "refuse", desc := "(I)I" } : Jvm.MethodName)) ∈ lw_all := lw_g (lw_at lw_m3 130 rfl) rfl
theorem q753 : (Jvm.Cond.code ({ cls := "OldWeather", name := "refuse", desc := "(I)I" } : Jvm.MethodName) prog_1_method_2_code (2 : Nat) (Option.some Jvm.ClassFile.FieldType.int)) ∈ lw_all := lw_g (lw_at lw_m3 131 rfl) rfl
theorem q754 : (Jvm.Cond.methodLink "OldWeather" (168 : Nat) ({ cls := "OldWeather$Told", name := "takes", desc := "(LOldWeather$Told;)V" } : Jvm.MethodName)) ∈ lw_all := lw_g (lw_at lw_m3 132 rfl) rfl
theorem q755 : (Jvm.Cond.instanceMethod ({ cls := "OldWeather$Told", name := "takes", desc := "(LOldWeather$Told;)V" } : Jvm.MethodName)) ∈ lw_all := lw_g (lw_at lw_m3 133 rfl) rfl
theorem q756 : (Jvm.Cond.selects "OldWeather$Told" ({ cls := "OldWeather$Told", name := "takes", desc := "(LOldWeather$Told;)V" } : Jvm.MethodName) ({ cls := "OldWeather$Told", name := "takes", desc := "(LOldWeather$Told;)V" } : Jvm.MethodName)) ∈ lw_all := lw_g (lw_at lw_m3 134 rfl) rfl
theorem q757 : (Jvm.Cond.code ({ cls := "OldWeather$Told", name := "takes", desc := "(LOldWeather$Told;)V" } : Jvm.MethodName) prog_26_method_4_code (2 : Nat) (Option.none : Option Jvm.ClassFile.FieldType)) ∈ lw_all := lw_g (lw_at lw_m3 135 rfl) rfl
theorem q758 : (Jvm.Cond.methodLink "OldWeather$Told" (86 : Nat) ({ cls := "OldWeather$Told", name := "over", desc := "(Ljava/util/ArrayList;Ljava/util/ArrayList;)V" } : Jvm.MethodName)) ∈ lw_all := lw_g (lw_at lw_m3 136 rfl) rfl
theorem q759 : (Jvm.Cond.static ({ cls := "OldWeather$Told", name := "over", desc := "(Ljava/util/ArrayList;Ljava/util/ArrayList;)V" } : Jvm.MethodName)) ∈ lw_all := lw_g (lw_at lw_m3 137 rfl) rfl
theorem q760 : (Jvm.Cond.code ({ cls := "OldWeather$Told", name := "over", desc := "(Ljava/util/ArrayList;Ljava/util/ArrayList;)V" } : Jvm.MethodName) prog_26_method_2_code (2 : Nat) (Option.none : Option Jvm.ClassFile.FieldType)) ∈ lw_all := lw_g (lw_at lw_m3 138 rfl) rfl
theorem q761 : (Jvm.Cond.methodLink "OldWeather$Told" (73 : Nat) ({ cls := "java/util/ArrayList", name := "clear", desc := "()V" } : Jvm.MethodName)) ∈ lw_all := lw_g (lw_at lw_m3 139 rfl) rfl
theorem q762 : (Jvm.Cond.instanceMethod ({ cls := "java/util/ArrayList", name := "clear", desc := "()V" } : Jvm.MethodName)) ∈ lw_all := lw_g (lw_at lw_m3 140 rfl) rfl
theorem q763 : (Jvm.Cond.selects "java/util/ArrayList" ({ cls := "java/util/ArrayList", name := "clear", desc := "()V" } : Jvm.MethodName) ({ cls := "java/util/ArrayList", name := "clear", desc := "()V" } : Jvm.MethodName)) ∈ lw_all := lw_g (lw_at lw_m3 141 rfl) rfl
theorem q764 : (Jvm.Cond.code ({ cls := "java/util/ArrayList", name := "clear", desc := "()V" } : Jvm.MethodName) prog_54_method_40_code (4 : Nat) (Option.none : Option Jvm.ClassFile.FieldType)) ∈ lw_all := lw_g (lw_at lw_m3 142 rfl) rfl
theorem q765 : (Jvm.Cond.methodLink "OldWeather$Told" (76 : Nat) ({ cls := "java/util/ArrayList", name := "addAll", desc := "(Ljava/util/Collection;)Z" } : Jvm.MethodName)) ∈ lw_all := lw_g (lw_at lw_m3 143 rfl) rfl
theorem q766 : (Jvm.Cond.instanceMethod ({ cls := "java/util/ArrayList", name := "addAll", desc := "(Ljava/util/Collection;)Z" } : Jvm.MethodName)) ∈ lw_all := lw_g (lw_at lw_m3 144 rfl) rfl
theorem q767 : (Jvm.Cond.selects "java/util/ArrayList" ({ cls := "java/util/ArrayList", name := "addAll", desc := "(Ljava/util/Collection;)Z" } : Jvm.MethodName) ({ cls := "java/util/ArrayList", name := "addAll", desc := "(Ljava/util/Collection;)Z" } : Jvm.MethodName)) ∈ lw_all := lw_g (lw_at lw_m3 145 rfl) rfl
theorem q768 : (Jvm.Cond.code ({ cls := "java/util/ArrayList", name := "addAll", desc := "(Ljava/util/Collection;)Z" } : Jvm.MethodName) prog_54_method_41_code (6 : Nat) (Option.some Jvm.ClassFile.FieldType.boolean)) ∈ lw_all := lw_g (lw_at lw_m3 146 rfl) rfl
theorem q776 : (Jvm.Cond.instanceMethod ({ cls := "java/util/ArrayList", name := "toArray", desc := "()[Ljava/lang/Object;" } : Jvm.MethodName)) ∈ lw_all := lw_g (lw_at lw_m3 154 rfl) rfl
theorem q778 : (Jvm.Cond.code ({ cls := "java/util/ArrayList", name := "toArray", desc := "()[Ljava/lang/Object;" } : Jvm.MethodName) prog_54_method_16_code (1 : Nat) (Option.some (Jvm.ClassFile.FieldType.array (Jvm.ClassFile.FieldType.object "java/lang/Object")))) ∈ lw_all := lw_g (lw_at lw_m3 156 rfl) rfl
theorem q821 : (Jvm.Cond.static ({ cls := "java/lang/Math", name := "min", desc := "(II)I" } : Jvm.MethodName)) ∈ lw_all := lw_g (lw_at lw_m3 199 rfl) rfl
theorem q822 : (Jvm.Cond.code ({ cls := "java/lang/Math", name := "min", desc := "(II)I" } : Jvm.MethodName) prog_43_method_69_code (2 : Nat) (Option.some Jvm.ClassFile.FieldType.int)) ∈ lw_all := lw_g (lw_at lw_m3 200 rfl) rfl
theorem q826 : (Jvm.Cond.methodLink "java/util/ArrayList" (69 : Nat) ({ cls := "java/util/ArrayList", name := "grow", desc := "(I)[Ljava/lang/Object;" } : Jvm.MethodName)) ∈ lw_all := lw_g (lw_at lw_m3 204 rfl) rfl
theorem q828 : (Jvm.Cond.instanceMethod ({ cls := "java/util/ArrayList", name := "grow", desc := "(I)[Ljava/lang/Object;" } : Jvm.MethodName)) ∈ lw_all := lw_g (lw_at lw_m3 206 rfl) rfl
theorem q829 : (Jvm.Cond.code ({ cls := "java/util/ArrayList", name := "grow", desc := "(I)[Ljava/lang/Object;" } : Jvm.MethodName) prog_54_method_6_code (4 : Nat) (Option.some (Jvm.ClassFile.FieldType.array (Jvm.ClassFile.FieldType.object "java/lang/Object")))) ∈ lw_all := lw_g (lw_at lw_m3 207 rfl) rfl
theorem q832 : (Jvm.Cond.methodLink "java/util/ArrayList" (73 : Nat) ({ cls := "jdk/internal/util/ArraysSupport", name := "newLength", desc := "(III)I" } : Jvm.MethodName)) ∈ lw_all := lw_g (lw_at lw_m3 210 rfl) rfl
theorem q833 : (Jvm.Cond.static ({ cls := "jdk/internal/util/ArraysSupport", name := "newLength", desc := "(III)I" } : Jvm.MethodName)) ∈ lw_all := lw_g (lw_at lw_m3 211 rfl) rfl
theorem q834 : (Jvm.Cond.code ({ cls := "jdk/internal/util/ArraysSupport", name := "newLength", desc := "(III)I" } : Jvm.MethodName) prog_61_method_27_code (4 : Nat) (Option.some Jvm.ClassFile.FieldType.int)) ∈ lw_all := lw_g (lw_at lw_m3 212 rfl) rfl
theorem q835 : (Jvm.Cond.methodLink "jdk/internal/util/ArraysSupport" (194 : Nat) ({ cls := "java/lang/Math", name := "max", desc := "(II)I" } : Jvm.MethodName)) ∈ lw_all := lw_g (lw_at lw_m3 213 rfl) rfl
theorem q837 : (Jvm.Cond.methodLink "jdk/internal/util/ArraysSupport" (201 : Nat) ({ cls := "jdk/internal/util/ArraysSupport", name := "hugeLength", desc := "(II)I" } : Jvm.MethodName)) ∈ lw_all := lw_g (lw_at lw_m3 215 rfl) rfl
theorem q838 : (Jvm.Cond.static ({ cls := "jdk/internal/util/ArraysSupport", name := "hugeLength", desc := "(II)I" } : Jvm.MethodName)) ∈ lw_all := lw_g (lw_at lw_m3 216 rfl) rfl
theorem q839 : (Jvm.Cond.code ({ cls := "jdk/internal/util/ArraysSupport", name := "hugeLength", desc := "(II)I" } : Jvm.MethodName) prog_61_method_28_code (3 : Nat) (Option.some Jvm.ClassFile.FieldType.int)) ∈ lw_all := lw_g (lw_at lw_m3 217 rfl) rfl
theorem q840 : (Jvm.Cond.methodLink "java/util/ArrayList" (79 : Nat) ({ cls := "java/lang/Math", name := "max", desc := "(II)I" } : Jvm.MethodName)) ∈ lw_all := lw_g (lw_at lw_m3 218 rfl) rfl
theorem q842 : (Jvm.Cond.methodLink "OldWeather$Told" (90 : Nat) ({ cls := "OldWeather$Told", name := "rows", desc := "([I[I)V" } : Jvm.MethodName)) ∈ lw_all := lw_g (lw_at lw_m3 220 rfl) rfl
theorem q843 : (Jvm.Cond.static ({ cls := "OldWeather$Told", name := "rows", desc := "([I[I)V" } : Jvm.MethodName)) ∈ lw_all := lw_g (lw_at lw_m3 221 rfl) rfl
theorem q844 : (Jvm.Cond.code ({ cls := "OldWeather$Told", name := "rows", desc := "([I[I)V" } : Jvm.MethodName) prog_26_method_3_code (2 : Nat) (Option.none : Option Jvm.ClassFile.FieldType)) ∈ lw_all := lw_g (lw_at lw_m3 222 rfl) rfl
theorem q846 : (Jvm.Cond.methodLink "OldWeather" (121 : Nat) ({ cls := "OldWeather", name := "done", desc := "(I)I" } : Jvm.MethodName)) ∈ lw_all := lw_g (lw_at lw_m3 224 rfl) rfl
theorem q848 : (Jvm.Cond.instanceMethod ({ cls := "OldWeather", name := "done", desc := "(I)I" } : Jvm.MethodName)) ∈ lw_all := lw_g (lw_at lw_m3 226 rfl) rfl
theorem q849 : (Jvm.Cond.code ({ cls := "OldWeather", name := "done", desc := "(I)I" } : Jvm.MethodName) prog_1_method_3_code (2 : Nat) (Option.some Jvm.ClassFile.FieldType.int)) ∈ lw_all := lw_g (lw_at lw_m3 227 rfl) rfl
theorem q853 : (Jvm.Cond.code ({ cls := "OldWeather", name := "back", desc := "(I)I" } : Jvm.MethodName) prog_1_method_18_code (2 : Nat) (Option.some Jvm.ClassFile.FieldType.int)) ∈ lw_all := lw_g (lw_at lw_m3 231 rfl) rfl
theorem q854 : (Jvm.Cond.methodLink "OldWeather" (172 : Nat) ({ cls := "OldWeather", name := "told", desc := "(I)I" } : Jvm.MethodName)) ∈ lw_all := lw_g (lw_at lw_m3 232 rfl) rfl
theorem q856 : (Jvm.Cond.instanceMethod ({ cls := "OldWeather", name := "told", desc := "(I)I" } : Jvm.MethodName)) ∈ lw_all := lw_g (lw_at lw_m3 234 rfl) rfl
theorem q857 : (Jvm.Cond.code ({ cls := "OldWeather", name := "told", desc := "(I)I" } : Jvm.MethodName) prog_1_method_4_code (2 : Nat) (Option.some Jvm.ClassFile.FieldType.int)) ∈ lw_all := lw_g (lw_at lw_m3 235 rfl) rfl
theorem q861 : (Jvm.Cond.code ({ cls := "OldWeather", name := "place", desc := "(I)I" } : Jvm.MethodName) prog_1_method_21_code (4 : Nat) (Option.some Jvm.ClassFile.FieldType.int)) ∈ lw_all := lw_g (lw_at lw_m3 239 rfl) rfl
theorem q865 : (Jvm.Cond.code ({ cls := "OldWeather", name := "season", desc := "(IIII)I" } : Jvm.MethodName) prog_1_method_22_code (5 : Nat) (Option.some Jvm.ClassFile.FieldType.int)) ∈ lw_all := lw_g (lw_at lw_m4 3 rfl) rfl
theorem q866 : (Jvm.Cond.methodLink "OldWeather" (192 : Nat) ({ cls := "OldWeather", name := "isPlace", desc := "(I)Z" } : Jvm.MethodName)) ∈ lw_all := lw_g (lw_at lw_m4 4 rfl) rfl
theorem q868 : (Jvm.Cond.instanceMethod ({ cls := "OldWeather", name := "isPlace", desc := "(I)Z" } : Jvm.MethodName)) ∈ lw_all := lw_g (lw_at lw_m4 6 rfl) rfl
theorem q869 : (Jvm.Cond.code ({ cls := "OldWeather", name := "isPlace", desc := "(I)Z" } : Jvm.MethodName) prog_1_method_19_code (2 : Nat) (Option.some Jvm.ClassFile.FieldType.boolean)) ∈ lw_all := lw_g (lw_at lw_m4 7 rfl) rfl
theorem q873 : (Jvm.Cond.code ({ cls := "OldWeather", name := "like", desc := "(III)I" } : Jvm.MethodName) prog_1_method_23_code (4 : Nat) (Option.some Jvm.ClassFile.FieldType.int)) ∈ lw_all := lw_g (lw_at lw_m4 11 rfl) rfl
theorem q877 : (Jvm.Cond.code ({ cls := "OldWeather", name := "source", desc := "(II)I" } : Jvm.MethodName) prog_1_method_24_code (4 : Nat) (Option.some Jvm.ClassFile.FieldType.int)) ∈ lw_all := lw_g (lw_at lw_m4 15 rfl) rfl
theorem q881 : (Jvm.Cond.code ({ cls := "OldWeather", name := "turn", desc := "(II)I" } : Jvm.MethodName) prog_1_method_25_code (3 : Nat) (Option.some Jvm.ClassFile.FieldType.int)) ∈ lw_all := lw_g (lw_at lw_m4 19 rfl) rfl
theorem q883 : (Jvm.Cond.methodLink "OldWeather" (208 : Nat) ({ cls := "OldWeather", name := "isSource", desc := "(I)Z" } : Jvm.MethodName)) ∈ lw_all := lw_g (lw_at lw_m4 21 rfl) rfl
theorem q885 : (Jvm.Cond.instanceMethod ({ cls := "OldWeather", name := "isSource", desc := "(I)Z" } : Jvm.MethodName)) ∈ lw_all := lw_g (lw_at lw_m4 23 rfl) rfl
theorem q886 : (Jvm.Cond.code ({ cls := "OldWeather", name := "isSource", desc := "(I)Z" } : Jvm.MethodName) prog_1_method_20_code (2 : Nat) (Option.some Jvm.ClassFile.FieldType.boolean)) ∈ lw_all := lw_g (lw_at lw_m4 24 rfl) rfl
theorem q890 : (Jvm.Cond.code ({ cls := "OldWeather", name := "stopped", desc := "(I)I" } : Jvm.MethodName) prog_1_method_26_code (2 : Nat) (Option.some Jvm.ClassFile.FieldType.int)) ∈ lw_all := lw_g (lw_at lw_m4 28 rfl) rfl
theorem q894 : (Jvm.Cond.code ({ cls := "OldWeather", name := "word", desc := "(IIIIII)I" } : Jvm.MethodName) prog_1_method_29_code (8 : Nat) (Option.some Jvm.ClassFile.FieldType.int)) ∈ lw_all := lw_g (lw_at lw_m4 32 rfl) rfl
theorem q895 : (Jvm.Cond.methodLink "OldWeather" (239 : Nat) ({ cls := "OldWeather", name := "lacks", desc := "(IIIII)I" } : Jvm.MethodName)) ∈ lw_all := lw_g (lw_at lw_m4 33 rfl) rfl
theorem q897 : (Jvm.Cond.instanceMethod ({ cls := "OldWeather", name := "lacks", desc := "(IIIII)I" } : Jvm.MethodName)) ∈ lw_all := lw_g (lw_at lw_m4 35 rfl) rfl
theorem q898 : (Jvm.Cond.code ({ cls := "OldWeather", name := "lacks", desc := "(IIIII)I" } : Jvm.MethodName) prog_1_method_27_code (6 : Nat) (Option.some Jvm.ClassFile.FieldType.int)) ∈ lw_all := lw_g (lw_at lw_m4 36 rfl) rfl
theorem q899 : (Jvm.Cond.methodLink "OldWeather" (211 : Nat) ({ cls := "OldWeather", name := "isDesk", desc := "(I)Z" } : Jvm.MethodName)) ∈ lw_all := lw_g (lw_at lw_m4 37 rfl) rfl
theorem q900 : (Jvm.Cond.static ({ cls := "OldWeather", name := "isDesk", desc := "(I)Z" } : Jvm.MethodName)) ∈ lw_all := lw_g (lw_at lw_m4 38 rfl) rfl
theorem q901 : (Jvm.Cond.code ({ cls := "OldWeather", name := "isDesk", desc := "(I)Z" } : Jvm.MethodName) prog_1_method_6_code (1 : Nat) (Option.some Jvm.ClassFile.FieldType.boolean)) ∈ lw_all := lw_g (lw_at lw_m4 39 rfl) rfl
theorem q902 : (Jvm.Cond.methodLink "OldWeather" (218 : Nat) ({ cls := "java/util/ArrayList", name := "size", desc := "()I" } : Jvm.MethodName)) ∈ lw_all := lw_g (lw_at lw_m4 40 rfl) rfl
theorem q903 : (Jvm.Cond.instanceMethod ({ cls := "java/util/ArrayList", name := "size", desc := "()I" } : Jvm.MethodName)) ∈ lw_all := lw_g (lw_at lw_m4 41 rfl) rfl
theorem q904 : (Jvm.Cond.selects "java/util/ArrayList" ({ cls := "java/util/ArrayList", name := "size", desc := "()I" } : Jvm.MethodName) ({ cls := "java/util/ArrayList", name := "size", desc := "()I" } : Jvm.MethodName)) ∈ lw_all := lw_g (lw_at lw_m4 42 rfl) rfl
theorem q905 : (Jvm.Cond.code ({ cls := "java/util/ArrayList", name := "size", desc := "()I" } : Jvm.MethodName) prog_54_method_8_code (1 : Nat) (Option.some Jvm.ClassFile.FieldType.int)) ∈ lw_all := lw_g (lw_at lw_m4 43 rfl) rfl
theorem q908 : (Jvm.Cond.methodLink "OldWeather" (245 : Nat) ({ cls := "OldWeather$Word", name := "<init>", desc := "(IIIIII)V" } : Jvm.MethodName)) ∈ lw_all := lw_g (lw_at lw_m4 46 rfl) rfl
theorem q909 : (Jvm.Cond.instanceMethod ({ cls := "OldWeather$Word", name := "<init>", desc := "(IIIIII)V" } : Jvm.MethodName)) ∈ lw_all := lw_g (lw_at lw_m4 47 rfl) rfl
theorem q910 : (Jvm.Cond.code ({ cls := "OldWeather$Word", name := "<init>", desc := "(IIIIII)V" } : Jvm.MethodName) prog_29_method_1_code (7 : Nat) (Option.none : Option Jvm.ClassFile.FieldType)) ∈ lw_all := lw_g (lw_at lw_m4 48 rfl) rfl
theorem q911 : (Jvm.Cond.methodLink "OldWeather$Word" (3 : Nat) ({ cls := "OldWeather$Reading", name := "<init>", desc := "(IIIIII)V" } : Jvm.MethodName)) ∈ lw_all := lw_g (lw_at lw_m4 49 rfl) rfl
theorem q912 : (Jvm.Cond.instanceMethod ({ cls := "OldWeather$Reading", name := "<init>", desc := "(IIIIII)V" } : Jvm.MethodName)) ∈ lw_all := lw_g (lw_at lw_m4 50 rfl) rfl
theorem q913 : (Jvm.Cond.code ({ cls := "OldWeather$Reading", name := "<init>", desc := "(IIIIII)V" } : Jvm.MethodName) prog_20_method_1_code (7 : Nat) (Option.none : Option Jvm.ClassFile.FieldType)) ∈ lw_all := lw_g (lw_at lw_m4 51 rfl) rfl
theorem q952 : (Jvm.Cond.methodLink "OldWeather" (248 : Nat) ({ cls := "OldWeather", name := "puts", desc := "(LOldWeather$Reading;I)I" } : Jvm.MethodName)) ∈ lw_all := lw_g (lw_at lw_m4 90 rfl) rfl
theorem q954 : (Jvm.Cond.instanceMethod ({ cls := "OldWeather", name := "puts", desc := "(LOldWeather$Reading;I)I" } : Jvm.MethodName)) ∈ lw_all := lw_g (lw_at lw_m4 92 rfl) rfl
theorem q955 : (Jvm.Cond.code ({ cls := "OldWeather", name := "puts", desc := "(LOldWeather$Reading;I)I" } : Jvm.MethodName) prog_1_method_28_code (3 : Nat) (Option.some Jvm.ClassFile.FieldType.int)) ∈ lw_all := lw_g (lw_at lw_m4 93 rfl) rfl
theorem q956 : (Jvm.Cond.methodLink "OldWeather" (235 : Nat) ({ cls := "java/util/ArrayList", name := "add", desc := "(Ljava/lang/Object;)Z" } : Jvm.MethodName)) ∈ lw_all := lw_g (lw_at lw_m4 94 rfl) rfl
theorem q957 : (Jvm.Cond.instanceMethod ({ cls := "java/util/ArrayList", name := "add", desc := "(Ljava/lang/Object;)Z" } : Jvm.MethodName)) ∈ lw_all := lw_g (lw_at lw_m4 95 rfl) rfl
theorem q958 : (Jvm.Cond.selects "java/util/ArrayList" ({ cls := "java/util/ArrayList", name := "add", desc := "(Ljava/lang/Object;)Z" } : Jvm.MethodName) ({ cls := "java/util/ArrayList", name := "add", desc := "(Ljava/lang/Object;)Z" } : Jvm.MethodName)) ∈ lw_all := lw_g (lw_at lw_m4 96 rfl) rfl
theorem q959 : (Jvm.Cond.code ({ cls := "java/util/ArrayList", name := "add", desc := "(Ljava/lang/Object;)Z" } : Jvm.MethodName) prog_54_method_25_code (2 : Nat) (Option.some Jvm.ClassFile.FieldType.boolean)) ∈ lw_all := lw_g (lw_at lw_m4 97 rfl) rfl
theorem q960 : (Jvm.Cond.methodLink "java/util/ArrayList" (131 : Nat) ({ cls := "java/util/ArrayList", name := "add", desc := "(Ljava/lang/Object;[Ljava/lang/Object;I)V" } : Jvm.MethodName)) ∈ lw_all := lw_g (lw_at lw_m4 98 rfl) rfl
theorem q962 : (Jvm.Cond.instanceMethod ({ cls := "java/util/ArrayList", name := "add", desc := "(Ljava/lang/Object;[Ljava/lang/Object;I)V" } : Jvm.MethodName)) ∈ lw_all := lw_g (lw_at lw_m4 100 rfl) rfl
theorem q963 : (Jvm.Cond.code ({ cls := "java/util/ArrayList", name := "add", desc := "(Ljava/lang/Object;[Ljava/lang/Object;I)V" } : Jvm.MethodName) prog_54_method_24_code (4 : Nat) (Option.none : Option Jvm.ClassFile.FieldType)) ∈ lw_all := lw_g (lw_at lw_m4 101 rfl) rfl
theorem q964 : (Jvm.Cond.methodLink "java/util/ArrayList" (129 : Nat) ({ cls := "java/util/ArrayList", name := "grow", desc := "()[Ljava/lang/Object;" } : Jvm.MethodName)) ∈ lw_all := lw_g (lw_at lw_m4 102 rfl) rfl
theorem q966 : (Jvm.Cond.instanceMethod ({ cls := "java/util/ArrayList", name := "grow", desc := "()[Ljava/lang/Object;" } : Jvm.MethodName)) ∈ lw_all := lw_g (lw_at lw_m4 104 rfl) rfl
theorem q967 : (Jvm.Cond.code ({ cls := "java/util/ArrayList", name := "grow", desc := "()[Ljava/lang/Object;" } : Jvm.MethodName) prog_54_method_7_code (1 : Nat) (Option.some (Jvm.ClassFile.FieldType.array (Jvm.ClassFile.FieldType.object "java/lang/Object")))) ∈ lw_all := lw_g (lw_at lw_m4 105 rfl) rfl
theorem q971 : (Jvm.Cond.code ({ cls := "OldWeather", name := "gauge", desc := "(IIIIII)I" } : Jvm.MethodName) prog_1_method_30_code (8 : Nat) (Option.some Jvm.ClassFile.FieldType.int)) ∈ lw_all := lw_g (lw_at lw_m4 109 rfl) rfl
theorem q974 : (Jvm.Cond.methodLink "OldWeather" (254 : Nat) ({ cls := "OldWeather$Gauge", name := "<init>", desc := "(IIIIII)V" } : Jvm.MethodName)) ∈ lw_all := lw_g (lw_at lw_m4 112 rfl) rfl
theorem q975 : (Jvm.Cond.instanceMethod ({ cls := "OldWeather$Gauge", name := "<init>", desc := "(IIIIII)V" } : Jvm.MethodName)) ∈ lw_all := lw_g (lw_at lw_m4 113 rfl) rfl
theorem q976 : (Jvm.Cond.code ({ cls := "OldWeather$Gauge", name := "<init>", desc := "(IIIIII)V" } : Jvm.MethodName) prog_12_method_1_code (7 : Nat) (Option.none : Option Jvm.ClassFile.FieldType)) ∈ lw_all := lw_g (lw_at lw_m4 114 rfl) rfl
theorem q977 : (Jvm.Cond.methodLink "OldWeather$Gauge" (3 : Nat) ({ cls := "OldWeather$Reading", name := "<init>", desc := "(IIIIII)V" } : Jvm.MethodName)) ∈ lw_all := lw_g (lw_at lw_m4 115 rfl) rfl
theorem q988 : (Jvm.Cond.code ({ cls := "OldWeather", name := "log", desc := "(IIIIII)I" } : Jvm.MethodName) prog_1_method_31_code (8 : Nat) (Option.some Jvm.ClassFile.FieldType.int)) ∈ lw_all := lw_g (lw_at lw_m4 126 rfl) rfl
theorem q991 : (Jvm.Cond.methodLink "OldWeather" (257 : Nat) ({ cls := "OldWeather$Log", name := "<init>", desc := "(IIIIII)V" } : Jvm.MethodName)) ∈ lw_all := lw_g (lw_at lw_m4 129 rfl) rfl
theorem q992 : (Jvm.Cond.instanceMethod ({ cls := "OldWeather$Log", name := "<init>", desc := "(IIIIII)V" } : Jvm.MethodName)) ∈ lw_all := lw_g (lw_at lw_m4 130 rfl) rfl
theorem q993 : (Jvm.Cond.code ({ cls := "OldWeather$Log", name := "<init>", desc := "(IIIIII)V" } : Jvm.MethodName) prog_13_method_1_code (7 : Nat) (Option.none : Option Jvm.ClassFile.FieldType)) ∈ lw_all := lw_g (lw_at lw_m4 131 rfl) rfl
theorem q994 : (Jvm.Cond.methodLink "OldWeather$Log" (1 : Nat) ({ cls := "OldWeather$Word", name := "<init>", desc := "(IIIIII)V" } : Jvm.MethodName)) ∈ lw_all := lw_g (lw_at lw_m4 132 rfl) rfl
theorem q1005 : (Jvm.Cond.code ({ cls := "OldWeather", name := "proxy", desc := "(IIIIIII)I" } : Jvm.MethodName) prog_1_method_32_code (9 : Nat) (Option.some Jvm.ClassFile.FieldType.int)) ∈ lw_all := lw_g (lw_at lw_m4 143 rfl) rfl
theorem q1008 : (Jvm.Cond.methodLink "OldWeather" (260 : Nat) ({ cls := "OldWeather$Proxy", name := "<init>", desc := "(IIIIIII)V" } : Jvm.MethodName)) ∈ lw_all := lw_g (lw_at lw_m4 146 rfl) rfl
theorem q1009 : (Jvm.Cond.instanceMethod ({ cls := "OldWeather$Proxy", name := "<init>", desc := "(IIIIIII)V" } : Jvm.MethodName)) ∈ lw_all := lw_g (lw_at lw_m4 147 rfl) rfl
theorem q1010 : (Jvm.Cond.code ({ cls := "OldWeather$Proxy", name := "<init>", desc := "(IIIIIII)V" } : Jvm.MethodName) prog_18_method_1_code (8 : Nat) (Option.none : Option Jvm.ClassFile.FieldType)) ∈ lw_all := lw_g (lw_at lw_m4 148 rfl) rfl
theorem q1011 : (Jvm.Cond.methodLink "OldWeather$Proxy" (3 : Nat) ({ cls := "OldWeather$Reading", name := "<init>", desc := "(IIIIII)V" } : Jvm.MethodName)) ∈ lw_all := lw_g (lw_at lw_m4 149 rfl) rfl
theorem q1026 : (Jvm.Cond.code ({ cls := "OldWeather", name := "copy", desc := "(IIIIII)I" } : Jvm.MethodName) prog_1_method_33_code (8 : Nat) (Option.some Jvm.ClassFile.FieldType.int)) ∈ lw_all := lw_g (lw_at lw_m4 164 rfl) rfl
theorem q1027 : (Jvm.Cond.methodLink "OldWeather" (263 : Nat) ({ cls := "OldWeather", name := "isReading", desc := "(I)Z" } : Jvm.MethodName)) ∈ lw_all := lw_g (lw_at lw_m4 165 rfl) rfl
theorem q1029 : (Jvm.Cond.instanceMethod ({ cls := "OldWeather", name := "isReading", desc := "(I)Z" } : Jvm.MethodName)) ∈ lw_all := lw_g (lw_at lw_m4 167 rfl) rfl
theorem q1030 : (Jvm.Cond.code ({ cls := "OldWeather", name := "isReading", desc := "(I)Z" } : Jvm.MethodName) prog_1_method_34_code (2 : Nat) (Option.some Jvm.ClassFile.FieldType.boolean)) ∈ lw_all := lw_g (lw_at lw_m4 168 rfl) rfl
theorem q1033 : (Jvm.Cond.methodLink "OldWeather" (268 : Nat) ({ cls := "OldWeather$Copied", name := "<init>", desc := "(IIIIIII)V" } : Jvm.MethodName)) ∈ lw_all := lw_g (lw_at lw_m4 171 rfl) rfl
theorem q1034 : (Jvm.Cond.instanceMethod ({ cls := "OldWeather$Copied", name := "<init>", desc := "(IIIIIII)V" } : Jvm.MethodName)) ∈ lw_all := lw_g (lw_at lw_m4 172 rfl) rfl
theorem q1035 : (Jvm.Cond.code ({ cls := "OldWeather$Copied", name := "<init>", desc := "(IIIIIII)V" } : Jvm.MethodName) prog_6_method_1_code (8 : Nat) (Option.none : Option Jvm.ClassFile.FieldType)) ∈ lw_all := lw_g (lw_at lw_m4 173 rfl) rfl
theorem q1036 : (Jvm.Cond.methodLink "OldWeather$Copied" (3 : Nat) ({ cls := "OldWeather$Reading", name := "<init>", desc := "(IIIIII)V" } : Jvm.MethodName)) ∈ lw_all := lw_g (lw_at lw_m4 174 rfl) rfl
theorem q1051 : (Jvm.Cond.code ({ cls := "OldWeather", name := "strike", desc := "(II)I" } : Jvm.MethodName) prog_1_method_35_code (3 : Nat) (Option.some Jvm.ClassFile.FieldType.int)) ∈ lw_all := lw_g (lw_at lw_m4 189 rfl) rfl
theorem q1055 : (Jvm.Cond.codeWith ({ cls := "OldWeather", name := "row", desc := "(IIIIII)I" } : Jvm.MethodName) prog_1_method_37_code (15 : Nat) (Option.some Jvm.ClassFile.FieldType.int) [((133 : Nat), (250 : Nat), (253 : Nat), (302 : Nat))]) ∈ lw_all := lw_g (lw_at lw_m4 193 rfl) rfl
theorem q1056 : (Jvm.Cond.classLink "OldWeather" (302 : Nat) "java/lang/ArrayIndexOutOfBoundsException") ∈ lw_all := lw_g (lw_at lw_m4 194 rfl) rfl
theorem q1079 : (Jvm.Cond.castable "java/lang/ArrayIndexOutOfBoundsException" "java/lang/ArrayIndexOutOfBoundsException") ∈ lw_tbl := lw_at lw_m4 217 rfl
theorem q1092 : (Jvm.Cond.methodLink "OldWeather" (283 : Nat) ({ cls := "OldWeather$Floats", name := "<init>", desc := "([BI)V" } : Jvm.MethodName)) ∈ lw_all := lw_g (lw_at lw_m4 230 rfl) rfl
theorem q1093 : (Jvm.Cond.instanceMethod ({ cls := "OldWeather$Floats", name := "<init>", desc := "([BI)V" } : Jvm.MethodName)) ∈ lw_all := lw_g (lw_at lw_m4 231 rfl) rfl
theorem q1094 : (Jvm.Cond.code ({ cls := "OldWeather$Floats", name := "<init>", desc := "([BI)V" } : Jvm.MethodName) prog_10_method_1_code (3 : Nat) (Option.none : Option Jvm.ClassFile.FieldType)) ∈ lw_all := lw_g (lw_at lw_m4 232 rfl) rfl
theorem q1104 : (Jvm.Cond.methodLink "OldWeather" (286 : Nat) ({ cls := "OldWeather$Floats", name := "isEnd", desc := "()Z" } : Jvm.MethodName)) ∈ lw_all := lw_g (lw_at lw_m5 2 rfl) rfl
theorem q1105 : (Jvm.Cond.instanceMethod ({ cls := "OldWeather$Floats", name := "isEnd", desc := "()Z" } : Jvm.MethodName)) ∈ lw_all := lw_g (lw_at lw_m5 3 rfl) rfl
theorem q1106 : (Jvm.Cond.selects "OldWeather$Floats" ({ cls := "OldWeather$Floats", name := "isEnd", desc := "()Z" } : Jvm.MethodName) ({ cls := "OldWeather$Floats", name := "isEnd", desc := "()Z" } : Jvm.MethodName)) ∈ lw_all := lw_g (lw_at lw_m5 4 rfl) rfl
theorem q1107 : (Jvm.Cond.code ({ cls := "OldWeather$Floats", name := "isEnd", desc := "()Z" } : Jvm.MethodName) prog_10_method_2_code (1 : Nat) (Option.some Jvm.ClassFile.FieldType.boolean)) ∈ lw_all := lw_g (lw_at lw_m5 5 rfl) rfl
theorem q1108 : (Jvm.Cond.methodLink "OldWeather" (290 : Nat) ({ cls := "OldWeather$Floats", name := "next", desc := "()F" } : Jvm.MethodName)) ∈ lw_all := lw_g (lw_at lw_m5 6 rfl) rfl
theorem q1109 : (Jvm.Cond.instanceMethod ({ cls := "OldWeather$Floats", name := "next", desc := "()F" } : Jvm.MethodName)) ∈ lw_all := lw_g (lw_at lw_m5 7 rfl) rfl
theorem q1110 : (Jvm.Cond.selects "OldWeather$Floats" ({ cls := "OldWeather$Floats", name := "next", desc := "()F" } : Jvm.MethodName) ({ cls := "OldWeather$Floats", name := "next", desc := "()F" } : Jvm.MethodName)) ∈ lw_all := lw_g (lw_at lw_m5 8 rfl) rfl
theorem q1111 : (Jvm.Cond.code ({ cls := "OldWeather$Floats", name := "next", desc := "()F" } : Jvm.MethodName) prog_10_method_3_code (3 : Nat) (Option.some Jvm.ClassFile.FieldType.float)) ∈ lw_all := lw_g (lw_at lw_m5 9 rfl) rfl
theorem q1118 : (Jvm.Cond.methodLink "OldWeather" (294 : Nat) ({ cls := "OldWeather", name := "tenths", desc := "(F)I" } : Jvm.MethodName)) ∈ lw_all := lw_g (lw_at lw_m5 16 rfl) rfl
theorem q1119 : (Jvm.Cond.static ({ cls := "OldWeather", name := "tenths", desc := "(F)I" } : Jvm.MethodName)) ∈ lw_all := lw_g (lw_at lw_m5 17 rfl) rfl
theorem q1120 : (Jvm.Cond.code ({ cls := "OldWeather", name := "tenths", desc := "(F)I" } : Jvm.MethodName) prog_1_method_36_code (4 : Nat) (Option.some Jvm.ClassFile.FieldType.int)) ∈ lw_all := lw_g (lw_at lw_m5 18 rfl) rfl
theorem q1126 : (Jvm.Cond.methodLink "OldWeather" (298 : Nat) ({ cls := "OldWeather", name := "keeps", desc := "(IIIIII)I" } : Jvm.MethodName)) ∈ lw_all := lw_g (lw_at lw_m5 24 rfl) rfl
theorem q1128 : (Jvm.Cond.instanceMethod ({ cls := "OldWeather", name := "keeps", desc := "(IIIIII)I" } : Jvm.MethodName)) ∈ lw_all := lw_g (lw_at lw_m5 26 rfl) rfl
theorem q1129 : (Jvm.Cond.code ({ cls := "OldWeather", name := "keeps", desc := "(IIIIII)I" } : Jvm.MethodName) prog_1_method_38_code (7 : Nat) (Option.some Jvm.ClassFile.FieldType.int)) ∈ lw_all := lw_g (lw_at lw_m5 27 rfl) rfl
theorem q1133 : (Jvm.Cond.code ({ cls := "OldWeather", name := "of", desc := "(II)I" } : Jvm.MethodName) prog_1_method_40_code (3 : Nat) (Option.some Jvm.ClassFile.FieldType.int)) ∈ lw_all := lw_g (lw_at lw_m5 31 rfl) rfl
theorem q1134 : (Jvm.Cond.methodLink "OldWeather" (320 : Nat) ({ cls := "OldWeather", name := "dates", desc := "()V" } : Jvm.MethodName)) ∈ lw_all := lw_g (lw_at lw_m5 32 rfl) rfl
theorem q1136 : (Jvm.Cond.instanceMethod ({ cls := "OldWeather", name := "dates", desc := "()V" } : Jvm.MethodName)) ∈ lw_all := lw_g (lw_at lw_m5 34 rfl) rfl
theorem q1137 : (Jvm.Cond.code ({ cls := "OldWeather", name := "dates", desc := "()V" } : Jvm.MethodName) prog_1_method_39_code (6 : Nat) (Option.none : Option Jvm.ClassFile.FieldType)) ∈ lw_all := lw_g (lw_at lw_m5 35 rfl) rfl
theorem q1138 : (Jvm.Cond.methodLink "OldWeather" (304 : Nat) ({ cls := "java/util/ArrayList", name := "get", desc := "(I)Ljava/lang/Object;" } : Jvm.MethodName)) ∈ lw_all := lw_g (lw_at lw_m5 36 rfl) rfl
theorem q1139 : (Jvm.Cond.instanceMethod ({ cls := "java/util/ArrayList", name := "get", desc := "(I)Ljava/lang/Object;" } : Jvm.MethodName)) ∈ lw_all := lw_g (lw_at lw_m5 37 rfl) rfl
theorem q1140 : (Jvm.Cond.selects "java/util/ArrayList" ({ cls := "java/util/ArrayList", name := "get", desc := "(I)Ljava/lang/Object;" } : Jvm.MethodName) ({ cls := "java/util/ArrayList", name := "get", desc := "(I)Ljava/lang/Object;" } : Jvm.MethodName)) ∈ lw_all := lw_g (lw_at lw_m5 38 rfl) rfl
theorem q1141 : (Jvm.Cond.code ({ cls := "java/util/ArrayList", name := "get", desc := "(I)Ljava/lang/Object;" } : Jvm.MethodName) prog_54_method_20_code (2 : Nat) (Option.some (Jvm.ClassFile.FieldType.object "java/lang/Object"))) ∈ lw_all := lw_g (lw_at lw_m5 39 rfl) rfl
theorem q1142 : (Jvm.Cond.methodLink "java/util/ArrayList" (118 : Nat) ({ cls := "java/util/Objects", name := "checkIndex", desc := "(II)I" } : Jvm.MethodName)) ∈ lw_all := lw_g (lw_at lw_m5 40 rfl) rfl
theorem q1143 : (Jvm.Cond.static ({ cls := "java/util/Objects", name := "checkIndex", desc := "(II)I" } : Jvm.MethodName)) ∈ lw_all := lw_g (lw_at lw_m5 41 rfl) rfl
theorem q1144 : (Jvm.Cond.code ({ cls := "java/util/Objects", name := "checkIndex", desc := "(II)I" } : Jvm.MethodName) prog_58_method_17_code (2 : Nat) (Option.some Jvm.ClassFile.FieldType.int)) ∈ lw_all := lw_g (lw_at lw_m5 42 rfl) rfl
theorem q1145 : (Jvm.Cond.methodLink "java/util/Objects" (105 : Nat) ({ cls := "jdk/internal/util/Preconditions", name := "checkIndex", desc := "(IILjava/util/function/BiFunction;)I" } : Jvm.MethodName)) ∈ lw_all := lw_g (lw_at lw_m5 43 rfl) rfl
theorem q1146 : (Jvm.Cond.static ({ cls := "jdk/internal/util/Preconditions", name := "checkIndex", desc := "(IILjava/util/function/BiFunction;)I" } : Jvm.MethodName)) ∈ lw_all := lw_g (lw_at lw_m5 44 rfl) rfl
theorem q1147 : (Jvm.Cond.code ({ cls := "jdk/internal/util/Preconditions", name := "checkIndex", desc := "(IILjava/util/function/BiFunction;)I" } : Jvm.MethodName) prog_62_method_11_code (3 : Nat) (Option.some Jvm.ClassFile.FieldType.int)) ∈ lw_all := lw_g (lw_at lw_m5 45 rfl) rfl
theorem q1148 : (Jvm.Cond.methodLink "java/util/ArrayList" (123 : Nat) ({ cls := "java/util/ArrayList", name := "elementData", desc := "(I)Ljava/lang/Object;" } : Jvm.MethodName)) ∈ lw_all := lw_g (lw_at lw_m5 46 rfl) rfl
theorem q1149 : (Jvm.Cond.instanceMethod ({ cls := "java/util/ArrayList", name := "elementData", desc := "(I)Ljava/lang/Object;" } : Jvm.MethodName)) ∈ lw_all := lw_g (lw_at lw_m5 47 rfl) rfl
theorem q1150 : (Jvm.Cond.selects "java/util/ArrayList" ({ cls := "java/util/ArrayList", name := "elementData", desc := "(I)Ljava/lang/Object;" } : Jvm.MethodName) ({ cls := "java/util/ArrayList", name := "elementData", desc := "(I)Ljava/lang/Object;" } : Jvm.MethodName)) ∈ lw_all := lw_g (lw_at lw_m5 48 rfl) rfl
theorem q1151 : (Jvm.Cond.code ({ cls := "java/util/ArrayList", name := "elementData", desc := "(I)Ljava/lang/Object;" } : Jvm.MethodName) prog_54_method_18_code (2 : Nat) (Option.some (Jvm.ClassFile.FieldType.object "java/lang/Object"))) ∈ lw_all := lw_g (lw_at lw_m5 49 rfl) rfl
theorem q1158 : (Jvm.Cond.code ({ cls := "OldWeather$Copied", name := "kind", desc := "()I" } : Jvm.MethodName) prog_6_method_2_code (1 : Nat) (Option.some Jvm.ClassFile.FieldType.int)) ∈ lw_all := lw_g (lw_at lw_m5 56 rfl) rfl
theorem q1161 : (Jvm.Cond.code ({ cls := "OldWeather$Gauge", name := "kind", desc := "()I" } : Jvm.MethodName) prog_12_method_2_code (1 : Nat) (Option.some Jvm.ClassFile.FieldType.int)) ∈ lw_all := lw_g (lw_at lw_m5 59 rfl) rfl
theorem q1164 : (Jvm.Cond.code ({ cls := "OldWeather$Word", name := "kind", desc := "()I" } : Jvm.MethodName) prog_29_method_2_code (1 : Nat) (Option.some Jvm.ClassFile.FieldType.int)) ∈ lw_all := lw_g (lw_at lw_m5 62 rfl) rfl
theorem q1168 : (Jvm.Cond.code ({ cls := "OldWeather$Log", name := "hasDegrees", desc := "()Z" } : Jvm.MethodName) prog_13_method_2_code (1 : Nat) (Option.some Jvm.ClassFile.FieldType.boolean)) ∈ lw_all := lw_g (lw_at lw_m5 66 rfl) rfl
theorem q1170 : (Jvm.Cond.code ({ cls := "OldWeather$Bounds", name := "hasDegrees", desc := "()Z" } : Jvm.MethodName) prog_2_method_1_code (1 : Nat) (Option.some Jvm.ClassFile.FieldType.boolean)) ∈ lw_all := lw_g (lw_at lw_m5 68 rfl) rfl
theorem q1175 : (Jvm.Cond.code ({ cls := "OldWeather$Proxy", name := "kind", desc := "()I" } : Jvm.MethodName) prog_18_method_2_code (1 : Nat) (Option.some Jvm.ClassFile.FieldType.int)) ∈ lw_all := lw_g (lw_at lw_m5 73 rfl) rfl
theorem q1180 : (Jvm.Cond.codeWith ({ cls := "OldWeather", name := "as", desc := "(II)I" } : Jvm.MethodName) prog_1_method_41_code (5 : Nat) (Option.some Jvm.ClassFile.FieldType.int) [((27 : Nat), (79 : Nat), (148 : Nat), (331 : Nat)), ((80 : Nat), (95 : Nat), (148 : Nat), (331 : Nat)), ((96 : Nat), (111 : Nat), (148 : Nat), (331 : Nat)), ((112 : Nat), (127 : Nat), (148 : Nat), (331 : Nat)), ((128 : Nat), (143 : Nat), (148 : Nat), (331 : Nat)), ((144 : Nat), (147 : Nat), (148 : Nat), (331 : Nat))]) ∈ lw_all := lw_g (lw_at lw_m5 78 rfl) rfl
theorem q1181 : (Jvm.Cond.classLink "OldWeather" (331 : Nat) "java/lang/ClassCastException") ∈ lw_all := lw_g (lw_at lw_m5 79 rfl) rfl
theorem q1193 : (Jvm.Cond.castable "java/lang/ClassCastException" "java/lang/ClassCastException") ∈ lw_tbl := lw_at lw_m5 91 rfl
theorem q1198 : (Jvm.Cond.code ({ cls := "OldWeather", name := "feed", desc := "(IIIII)I" } : Jvm.MethodName) prog_1_method_42_code (6 : Nat) (Option.some Jvm.ClassFile.FieldType.int)) ∈ lw_all := lw_g (lw_at lw_m5 96 rfl) rfl
theorem q1199 : (Jvm.Cond.methodLink "OldWeather" (333 : Nat) ({ cls := "OldWeather", name := "four", desc := "(I)V" } : Jvm.MethodName)) ∈ lw_all := lw_g (lw_at lw_m5 97 rfl) rfl
theorem q1201 : (Jvm.Cond.instanceMethod ({ cls := "OldWeather", name := "four", desc := "(I)V" } : Jvm.MethodName)) ∈ lw_all := lw_g (lw_at lw_m5 99 rfl) rfl
theorem q1202 : (Jvm.Cond.code ({ cls := "OldWeather", name := "four", desc := "(I)V" } : Jvm.MethodName) prog_1_method_43_code (3 : Nat) (Option.none : Option Jvm.ClassFile.FieldType)) ∈ lw_all := lw_g (lw_at lw_m5 100 rfl) rfl
theorem q1206 : (Jvm.Cond.code ({ cls := "OldWeather", name := "end", desc := "(I)I" } : Jvm.MethodName) prog_1_method_44_code (2 : Nat) (Option.some Jvm.ClassFile.FieldType.int)) ∈ lw_all := lw_g (lw_at lw_m5 104 rfl) rfl
theorem q1210 : (Jvm.Cond.codeWith ({ cls := "OldWeather", name := "rules", desc := "(I)I" } : Jvm.MethodName) prog_1_method_45_code (5 : Nat) (Option.some Jvm.ClassFile.FieldType.int) [((58 : Nat), (62 : Nat), (65 : Nat), (346 : Nat))]) ∈ lw_all := lw_g (lw_at lw_m5 108 rfl) rfl
theorem q1211 : (Jvm.Cond.classLink "OldWeather" (346 : Nat) "OldWeather$Fault") ∈ lw_all := lw_g (lw_at lw_m5 109 rfl) rfl
theorem q1214 : (Jvm.Cond.methodLink "OldWeather" (342 : Nat) ({ cls := "OldWeather$Reader", name := "<init>", desc := "([BI)V" } : Jvm.MethodName)) ∈ lw_all := lw_g (lw_at lw_m5 112 rfl) rfl
theorem q1215 : (Jvm.Cond.instanceMethod ({ cls := "OldWeather$Reader", name := "<init>", desc := "([BI)V" } : Jvm.MethodName)) ∈ lw_all := lw_g (lw_at lw_m5 113 rfl) rfl
theorem q1216 : (Jvm.Cond.code ({ cls := "OldWeather$Reader", name := "<init>", desc := "([BI)V" } : Jvm.MethodName) prog_19_method_1_code (3 : Nat) (Option.none : Option Jvm.ClassFile.FieldType)) ∈ lw_all := lw_g (lw_at lw_m5 114 rfl) rfl
theorem q1219 : (Jvm.Cond.methodLink "OldWeather$Reader" (11 : Nat) ({ cls := "java/util/ArrayList", name := "<init>", desc := "(I)V" } : Jvm.MethodName)) ∈ lw_all := lw_g (lw_at lw_m5 117 rfl) rfl
theorem q1243 : (Jvm.Cond.methodLink "OldWeather" (343 : Nat) ({ cls := "OldWeather$Reader", name := "read", desc := "()V" } : Jvm.MethodName)) ∈ lw_all := lw_g (lw_at lw_m5 141 rfl) rfl
theorem q1244 : (Jvm.Cond.instanceMethod ({ cls := "OldWeather$Reader", name := "read", desc := "()V" } : Jvm.MethodName)) ∈ lw_all := lw_g (lw_at lw_m5 142 rfl) rfl
theorem q1245 : (Jvm.Cond.selects "OldWeather$Reader" ({ cls := "OldWeather$Reader", name := "read", desc := "()V" } : Jvm.MethodName) ({ cls := "OldWeather$Reader", name := "read", desc := "()V" } : Jvm.MethodName)) ∈ lw_all := lw_g (lw_at lw_m5 143 rfl) rfl
theorem q1246 : (Jvm.Cond.code ({ cls := "OldWeather$Reader", name := "read", desc := "()V" } : Jvm.MethodName) prog_19_method_8_code (1 : Nat) (Option.none : Option Jvm.ClassFile.FieldType)) ∈ lw_all := lw_g (lw_at lw_m5 144 rfl) rfl
theorem q1247 : (Jvm.Cond.methodLink "OldWeather$Reader" (52 : Nat) ({ cls := "OldWeather$Reader", name := "next", desc := "()V" } : Jvm.MethodName)) ∈ lw_all := lw_g (lw_at lw_m5 145 rfl) rfl
theorem q1249 : (Jvm.Cond.instanceMethod ({ cls := "OldWeather$Reader", name := "next", desc := "()V" } : Jvm.MethodName)) ∈ lw_all := lw_g (lw_at lw_m5 147 rfl) rfl
theorem q1250 : (Jvm.Cond.code ({ cls := "OldWeather$Reader", name := "next", desc := "()V" } : Jvm.MethodName) prog_19_method_3_code (1 : Nat) (Option.none : Option Jvm.ClassFile.FieldType)) ∈ lw_all := lw_g (lw_at lw_m5 148 rfl) rfl
theorem q1251 : (Jvm.Cond.methodLink "OldWeather$Reader" (34 : Nat) ({ cls := "OldWeather$Reader", name := "isIn", desc := "(III)Z" } : Jvm.MethodName)) ∈ lw_all := lw_g (lw_at lw_m5 149 rfl) rfl
theorem q1253 : (Jvm.Cond.instanceMethod ({ cls := "OldWeather$Reader", name := "isIn", desc := "(III)Z" } : Jvm.MethodName)) ∈ lw_all := lw_g (lw_at lw_m5 151 rfl) rfl
theorem q1254 : (Jvm.Cond.code ({ cls := "OldWeather$Reader", name := "isIn", desc := "(III)Z" } : Jvm.MethodName) prog_19_method_2_code (4 : Nat) (Option.some Jvm.ClassFile.FieldType.boolean)) ∈ lw_all := lw_g (lw_at lw_m5 152 rfl) rfl
theorem q1255 : (Jvm.Cond.methodLink "OldWeather$Reader" (61 : Nat) ({ cls := "OldWeather$Reader", name := "clause", desc := "()V" } : Jvm.MethodName)) ∈ lw_all := lw_g (lw_at lw_m5 153 rfl) rfl
theorem q1257 : (Jvm.Cond.instanceMethod ({ cls := "OldWeather$Reader", name := "clause", desc := "()V" } : Jvm.MethodName)) ∈ lw_all := lw_g (lw_at lw_m5 155 rfl) rfl
theorem q1258 : (Jvm.Cond.code ({ cls := "OldWeather$Reader", name := "clause", desc := "()V" } : Jvm.MethodName) prog_19_method_9_code (2 : Nat) (Option.none : Option Jvm.ClassFile.FieldType)) ∈ lw_all := lw_g (lw_at lw_m5 156 rfl) rfl
theorem q1259 : (Jvm.Cond.methodLink "OldWeather$Reader" (66 : Nat) ({ cls := "java/util/ArrayList", name := "size", desc := "()I" } : Jvm.MethodName)) ∈ lw_all := lw_g (lw_at lw_m5 157 rfl) rfl
theorem q1262 : (Jvm.Cond.castable "OldWeather$Fault" "OldWeather$Fault") ∈ lw_tbl := lw_at lw_m5 160 rfl
theorem q1269 : (Jvm.Cond.methodLink "OldWeather$Reader" (60 : Nat) ({ cls := "OldWeather$Fault", name := "<init>", desc := "(I)V" } : Jvm.MethodName)) ∈ lw_all := lw_g (lw_at lw_m5 167 rfl) rfl
theorem q1270 : (Jvm.Cond.instanceMethod ({ cls := "OldWeather$Fault", name := "<init>", desc := "(I)V" } : Jvm.MethodName)) ∈ lw_all := lw_g (lw_at lw_m5 168 rfl) rfl
theorem q1271 : (Jvm.Cond.code ({ cls := "OldWeather$Fault", name := "<init>", desc := "(I)V" } : Jvm.MethodName) prog_8_method_1_code (2 : Nat) (Option.none : Option Jvm.ClassFile.FieldType)) ∈ lw_all := lw_g (lw_at lw_m5 169 rfl) rfl
theorem q1280 : (Jvm.Cond.methodLink "OldWeather$Reader" (55 : Nat) ({ cls := "OldWeather$Reader", name := "takes", desc := "(Ljava/lang/String;)Z" } : Jvm.MethodName)) ∈ lw_all := lw_g (lw_at lw_m5 178 rfl) rfl
theorem q1282 : (Jvm.Cond.instanceMethod ({ cls := "OldWeather$Reader", name := "takes", desc := "(Ljava/lang/String;)Z" } : Jvm.MethodName)) ∈ lw_all := lw_g (lw_at lw_m5 180 rfl) rfl
theorem q1283 : (Jvm.Cond.code ({ cls := "OldWeather$Reader", name := "takes", desc := "(Ljava/lang/String;)Z" } : Jvm.MethodName) prog_19_method_5_code (3 : Nat) (Option.some Jvm.ClassFile.FieldType.boolean)) ∈ lw_all := lw_g (lw_at lw_m5 181 rfl) rfl
theorem q1284 : (Jvm.Cond.methodLink "OldWeather$Reader" (48 : Nat) ({ cls := "OldWeather$Reader", name := "is", desc := "(Ljava/lang/String;)Z" } : Jvm.MethodName)) ∈ lw_all := lw_g (lw_at lw_m5 182 rfl) rfl
theorem q1286 : (Jvm.Cond.instanceMethod ({ cls := "OldWeather$Reader", name := "is", desc := "(Ljava/lang/String;)Z" } : Jvm.MethodName)) ∈ lw_all := lw_g (lw_at lw_m5 184 rfl) rfl
theorem q1287 : (Jvm.Cond.code ({ cls := "OldWeather$Reader", name := "is", desc := "(Ljava/lang/String;)Z" } : Jvm.MethodName) prog_19_method_4_code (3 : Nat) (Option.some Jvm.ClassFile.FieldType.boolean)) ∈ lw_all := lw_g (lw_at lw_m5 185 rfl) rfl
theorem q1334 : (Jvm.Cond.methodLink "OldWeather$Reader" (70 : Nat) ({ cls := "OldWeather$Reader", name := "number", desc := "(II)I" } : Jvm.MethodName)) ∈ lw_all := lw_g (lw_at lw_m5 232 rfl) rfl
theorem q1336 : (Jvm.Cond.instanceMethod ({ cls := "OldWeather$Reader", name := "number", desc := "(II)I" } : Jvm.MethodName)) ∈ lw_all := lw_g (lw_at lw_m5 234 rfl) rfl
theorem q1337 : (Jvm.Cond.code ({ cls := "OldWeather$Reader", name := "number", desc := "(II)I" } : Jvm.MethodName) prog_19_method_7_code (5 : Nat) (Option.some Jvm.ClassFile.FieldType.int)) ∈ lw_all := lw_g (lw_at lw_m5 235 rfl) rfl
theorem q1339 : (Jvm.Cond.methodLink "OldWeather$Reader" (75 : Nat) ({ cls := "OldWeather$Reader", name := "need", desc := "(Ljava/lang/String;)V" } : Jvm.MethodName)) ∈ lw_all := lw_g (lw_at lw_m5 237 rfl) rfl
theorem q1341 : (Jvm.Cond.instanceMethod ({ cls := "OldWeather$Reader", name := "need", desc := "(Ljava/lang/String;)V" } : Jvm.MethodName)) ∈ lw_all := lw_g (lw_at lw_m5 239 rfl) rfl
theorem q1342 : (Jvm.Cond.code ({ cls := "OldWeather$Reader", name := "need", desc := "(Ljava/lang/String;)V" } : Jvm.MethodName) prog_19_method_6_code (2 : Nat) (Option.none : Option Jvm.ClassFile.FieldType)) ∈ lw_all := lw_g (lw_at lw_m6 0 rfl) rfl
theorem q1345 : (Jvm.Cond.methodLink "OldWeather$Reader" (81 : Nat) ({ cls := "OldWeather$Clause", name := "<init>", desc := "(III)V" } : Jvm.MethodName)) ∈ lw_all := lw_g (lw_at lw_m6 3 rfl) rfl
theorem q1346 : (Jvm.Cond.instanceMethod ({ cls := "OldWeather$Clause", name := "<init>", desc := "(III)V" } : Jvm.MethodName)) ∈ lw_all := lw_g (lw_at lw_m6 4 rfl) rfl
theorem q1347 : (Jvm.Cond.code ({ cls := "OldWeather$Clause", name := "<init>", desc := "(III)V" } : Jvm.MethodName) prog_4_method_1_code (4 : Nat) (Option.none : Option Jvm.ClassFile.FieldType)) ∈ lw_all := lw_g (lw_at lw_m6 5 rfl) rfl
theorem q1376 : (Jvm.Cond.methodLink "OldWeather$Reader" (84 : Nat) ({ cls := "java/util/ArrayList", name := "add", desc := "(Ljava/lang/Object;)Z" } : Jvm.MethodName)) ∈ lw_all := lw_g (lw_at lw_m6 34 rfl) rfl
theorem q1379 : (Jvm.Cond.methodLink "OldWeather$Reader" (92 : Nat) ({ cls := "OldWeather$Reader", name := "head", desc := "()LOldWeather$Clause;" } : Jvm.MethodName)) ∈ lw_all := lw_g (lw_at lw_m6 37 rfl) rfl
theorem q1381 : (Jvm.Cond.instanceMethod ({ cls := "OldWeather$Reader", name := "head", desc := "()LOldWeather$Clause;" } : Jvm.MethodName)) ∈ lw_all := lw_g (lw_at lw_m6 39 rfl) rfl
theorem q1382 : (Jvm.Cond.code ({ cls := "OldWeather$Reader", name := "head", desc := "()LOldWeather$Clause;" } : Jvm.MethodName) prog_19_method_10_code (3 : Nat) (Option.some (Jvm.ClassFile.FieldType.object "OldWeather$Clause"))) ∈ lw_all := lw_g (lw_at lw_m6 40 rfl) rfl
theorem q1384 : (Jvm.Cond.methodLink "OldWeather$Reader" (108 : Nat) ({ cls := "OldWeather$Reader", name := "sum", desc := "()LOldWeather$Sum;" } : Jvm.MethodName)) ∈ lw_all := lw_g (lw_at lw_m6 42 rfl) rfl
theorem q1386 : (Jvm.Cond.instanceMethod ({ cls := "OldWeather$Reader", name := "sum", desc := "()LOldWeather$Sum;" } : Jvm.MethodName)) ∈ lw_all := lw_g (lw_at lw_m6 44 rfl) rfl
theorem q1387 : (Jvm.Cond.code ({ cls := "OldWeather$Reader", name := "sum", desc := "()LOldWeather$Sum;" } : Jvm.MethodName) prog_19_method_17_code (3 : Nat) (Option.some (Jvm.ClassFile.FieldType.object "OldWeather$Sum"))) ∈ lw_all := lw_g (lw_at lw_m6 45 rfl) rfl
theorem q1388 : (Jvm.Cond.methodLink "OldWeather$Reader" (188 : Nat) ({ cls := "OldWeather$Reader", name := "term", desc := "()LOldWeather$Sum;" } : Jvm.MethodName)) ∈ lw_all := lw_g (lw_at lw_m6 46 rfl) rfl
theorem q1390 : (Jvm.Cond.instanceMethod ({ cls := "OldWeather$Reader", name := "term", desc := "()LOldWeather$Sum;" } : Jvm.MethodName)) ∈ lw_all := lw_g (lw_at lw_m6 48 rfl) rfl
theorem q1391 : (Jvm.Cond.code ({ cls := "OldWeather$Reader", name := "term", desc := "()LOldWeather$Sum;" } : Jvm.MethodName) prog_19_method_18_code (3 : Nat) (Option.some (Jvm.ClassFile.FieldType.object "OldWeather$Sum"))) ∈ lw_all := lw_g (lw_at lw_m6 49 rfl) rfl
theorem q1392 : (Jvm.Cond.methodLink "OldWeather$Reader" (198 : Nat) ({ cls := "OldWeather$Reader", name := "part", desc := "()LOldWeather$Sum;" } : Jvm.MethodName)) ∈ lw_all := lw_g (lw_at lw_m6 50 rfl) rfl
theorem q1394 : (Jvm.Cond.instanceMethod ({ cls := "OldWeather$Reader", name := "part", desc := "()LOldWeather$Sum;" } : Jvm.MethodName)) ∈ lw_all := lw_g (lw_at lw_m6 52 rfl) rfl
theorem q1395 : (Jvm.Cond.code ({ cls := "OldWeather$Reader", name := "part", desc := "()LOldWeather$Sum;" } : Jvm.MethodName) prog_19_method_21_code (3 : Nat) (Option.some (Jvm.ClassFile.FieldType.object "OldWeather$Sum"))) ∈ lw_all := lw_g (lw_at lw_m6 53 rfl) rfl
theorem q1397 : (Jvm.Cond.methodLink "OldWeather$Reader" (172 : Nat) ({ cls := "OldWeather$Reader", name := "opens", desc := "()V" } : Jvm.MethodName)) ∈ lw_all := lw_g (lw_at lw_m6 55 rfl) rfl
theorem q1399 : (Jvm.Cond.instanceMethod ({ cls := "OldWeather$Reader", name := "opens", desc := "()V" } : Jvm.MethodName)) ∈ lw_all := lw_g (lw_at lw_m6 57 rfl) rfl
theorem q1400 : (Jvm.Cond.code ({ cls := "OldWeather$Reader", name := "opens", desc := "()V" } : Jvm.MethodName) prog_19_method_14_code (1 : Nat) (Option.none : Option Jvm.ClassFile.FieldType)) ∈ lw_all := lw_g (lw_at lw_m6 58 rfl) rfl
theorem q1403 : (Jvm.Cond.methodLink "OldWeather$Reader" (224 : Nat) ({ cls := "OldWeather$Turned", name := "<init>", desc := "(LOldWeather$Sum;)V" } : Jvm.MethodName)) ∈ lw_all := lw_g (lw_at lw_m6 61 rfl) rfl
theorem q1404 : (Jvm.Cond.instanceMethod ({ cls := "OldWeather$Turned", name := "<init>", desc := "(LOldWeather$Sum;)V" } : Jvm.MethodName)) ∈ lw_all := lw_g (lw_at lw_m6 62 rfl) rfl
theorem q1405 : (Jvm.Cond.code ({ cls := "OldWeather$Turned", name := "<init>", desc := "(LOldWeather$Sum;)V" } : Jvm.MethodName) prog_27_method_1_code (2 : Nat) (Option.none : Option Jvm.ClassFile.FieldType)) ∈ lw_all := lw_g (lw_at lw_m6 63 rfl) rfl
theorem q1406 : (Jvm.Cond.methodLinkNest "OldWeather$Turned" (1 : Nat) ({ cls := "OldWeather$Sum", name := "<init>", desc := "()V" } : Jvm.MethodName) "OldWeather") ∈ lw_tbl := lw_at lw_m6 64 rfl
theorem q1407 : (Jvm.Cond.instanceMethod ({ cls := "OldWeather$Sum", name := "<init>", desc := "()V" } : Jvm.MethodName)) ∈ lw_all := lw_g (lw_at lw_m6 65 rfl) rfl
theorem q1408 : (Jvm.Cond.code ({ cls := "OldWeather$Sum", name := "<init>", desc := "()V" } : Jvm.MethodName) prog_24_method_1_code (1 : Nat) (Option.none : Option Jvm.ClassFile.FieldType)) ∈ lw_all := lw_g (lw_at lw_m6 66 rfl) rfl
theorem q1416 : (Jvm.Cond.methodLink "OldWeather$Reader" (231 : Nat) ({ cls := "OldWeather$Reader", name := "leaf", desc := "()V" } : Jvm.MethodName)) ∈ lw_all := lw_g (lw_at lw_m6 74 rfl) rfl
theorem q1418 : (Jvm.Cond.instanceMethod ({ cls := "OldWeather$Reader", name := "leaf", desc := "()V" } : Jvm.MethodName)) ∈ lw_all := lw_g (lw_at lw_m6 76 rfl) rfl
theorem q1419 : (Jvm.Cond.code ({ cls := "OldWeather$Reader", name := "leaf", desc := "()V" } : Jvm.MethodName) prog_19_method_19_code (1 : Nat) (Option.none : Option Jvm.ClassFile.FieldType)) ∈ lw_all := lw_g (lw_at lw_m6 77 rfl) rfl
theorem q1422 : (Jvm.Cond.methodLink "OldWeather$Reader" (236 : Nat) ({ cls := "OldWeather$Number", name := "<init>", desc := "(I)V" } : Jvm.MethodName)) ∈ lw_all := lw_g (lw_at lw_m6 80 rfl) rfl
theorem q1423 : (Jvm.Cond.instanceMethod ({ cls := "OldWeather$Number", name := "<init>", desc := "(I)V" } : Jvm.MethodName)) ∈ lw_all := lw_g (lw_at lw_m6 81 rfl) rfl
theorem q1424 : (Jvm.Cond.code ({ cls := "OldWeather$Number", name := "<init>", desc := "(I)V" } : Jvm.MethodName) prog_16_method_1_code (2 : Nat) (Option.none : Option Jvm.ClassFile.FieldType)) ∈ lw_all := lw_g (lw_at lw_m6 82 rfl) rfl
theorem q1425 : (Jvm.Cond.methodLinkNest "OldWeather$Number" (1 : Nat) ({ cls := "OldWeather$Sum", name := "<init>", desc := "()V" } : Jvm.MethodName) "OldWeather") ∈ lw_tbl := lw_at lw_m6 83 rfl
theorem q1430 : (Jvm.Cond.methodLink "OldWeather$Reader" (237 : Nat) ({ cls := "OldWeather$Reader", name := "field", desc := "()I" } : Jvm.MethodName)) ∈ lw_all := lw_g (lw_at lw_m6 88 rfl) rfl
theorem q1432 : (Jvm.Cond.instanceMethod ({ cls := "OldWeather$Reader", name := "field", desc := "()I" } : Jvm.MethodName)) ∈ lw_all := lw_g (lw_at lw_m6 90 rfl) rfl
theorem q1433 : (Jvm.Cond.code ({ cls := "OldWeather$Reader", name := "field", desc := "()I" } : Jvm.MethodName) prog_19_method_20_code (1 : Nat) (Option.some Jvm.ClassFile.FieldType.int)) ∈ lw_all := lw_g (lw_at lw_m6 91 rfl) rfl
theorem q1443 : (Jvm.Cond.methodLink "OldWeather$Reader" (242 : Nat) ({ cls := "OldWeather$Field", name := "<init>", desc := "(I)V" } : Jvm.MethodName)) ∈ lw_all := lw_g (lw_at lw_m6 101 rfl) rfl
theorem q1444 : (Jvm.Cond.instanceMethod ({ cls := "OldWeather$Field", name := "<init>", desc := "(I)V" } : Jvm.MethodName)) ∈ lw_all := lw_g (lw_at lw_m6 102 rfl) rfl
theorem q1445 : (Jvm.Cond.code ({ cls := "OldWeather$Field", name := "<init>", desc := "(I)V" } : Jvm.MethodName) prog_9_method_1_code (2 : Nat) (Option.none : Option Jvm.ClassFile.FieldType)) ∈ lw_all := lw_g (lw_at lw_m6 103 rfl) rfl
theorem q1446 : (Jvm.Cond.methodLinkNest "OldWeather$Field" (1 : Nat) ({ cls := "OldWeather$Sum", name := "<init>", desc := "()V" } : Jvm.MethodName) "OldWeather") ∈ lw_tbl := lw_at lw_m6 104 rfl
theorem q1455 : (Jvm.Cond.methodLink "OldWeather$Reader" (197 : Nat) ({ cls := "OldWeather$Two", name := "<init>", desc := "(CLOldWeather$Sum;LOldWeather$Sum;)V" } : Jvm.MethodName)) ∈ lw_all := lw_g (lw_at lw_m6 113 rfl) rfl
theorem q1456 : (Jvm.Cond.instanceMethod ({ cls := "OldWeather$Two", name := "<init>", desc := "(CLOldWeather$Sum;LOldWeather$Sum;)V" } : Jvm.MethodName)) ∈ lw_all := lw_g (lw_at lw_m6 114 rfl) rfl
theorem q1457 : (Jvm.Cond.code ({ cls := "OldWeather$Two", name := "<init>", desc := "(CLOldWeather$Sum;LOldWeather$Sum;)V" } : Jvm.MethodName) prog_28_method_1_code (4 : Nat) (Option.none : Option Jvm.ClassFile.FieldType)) ∈ lw_all := lw_g (lw_at lw_m6 115 rfl) rfl
theorem q1458 : (Jvm.Cond.methodLinkNest "OldWeather$Two" (3 : Nat) ({ cls := "OldWeather$Sum", name := "<init>", desc := "()V" } : Jvm.MethodName) "OldWeather") ∈ lw_tbl := lw_at lw_m6 116 rfl
theorem q1474 : (Jvm.Cond.methodLink "OldWeather$Reader" (126 : Nat) ({ cls := "OldWeather$Reader", name := "kind", desc := "()I" } : Jvm.MethodName)) ∈ lw_all := lw_g (lw_at lw_m6 132 rfl) rfl
theorem q1476 : (Jvm.Cond.instanceMethod ({ cls := "OldWeather$Reader", name := "kind", desc := "()I" } : Jvm.MethodName)) ∈ lw_all := lw_g (lw_at lw_m6 134 rfl) rfl
theorem q1477 : (Jvm.Cond.code ({ cls := "OldWeather$Reader", name := "kind", desc := "()I" } : Jvm.MethodName) prog_19_method_11_code (1 : Nat) (Option.some Jvm.ClassFile.FieldType.int)) ∈ lw_all := lw_g (lw_at lw_m6 135 rfl) rfl
theorem q1484 : (Jvm.Cond.methodLink "OldWeather$Reader" (98 : Nat) ({ cls := "OldWeather$Reader", name := "test", desc := "()LOldWeather$Test;" } : Jvm.MethodName)) ∈ lw_all := lw_g (lw_at lw_m6 142 rfl) rfl
theorem q1486 : (Jvm.Cond.instanceMethod ({ cls := "OldWeather$Reader", name := "test", desc := "()LOldWeather$Test;" } : Jvm.MethodName)) ∈ lw_all := lw_g (lw_at lw_m6 144 rfl) rfl
theorem q1487 : (Jvm.Cond.code ({ cls := "OldWeather$Reader", name := "test", desc := "()LOldWeather$Test;" } : Jvm.MethodName) prog_19_method_12_code (3 : Nat) (Option.some (Jvm.ClassFile.FieldType.object "OldWeather$Test"))) ∈ lw_all := lw_g (lw_at lw_m6 145 rfl) rfl
theorem q1488 : (Jvm.Cond.methodLink "OldWeather$Reader" (139 : Nat) ({ cls := "OldWeather$Reader", name := "both", desc := "()LOldWeather$Test;" } : Jvm.MethodName)) ∈ lw_all := lw_g (lw_at lw_m6 146 rfl) rfl
theorem q1490 : (Jvm.Cond.instanceMethod ({ cls := "OldWeather$Reader", name := "both", desc := "()LOldWeather$Test;" } : Jvm.MethodName)) ∈ lw_all := lw_g (lw_at lw_m6 148 rfl) rfl
theorem q1491 : (Jvm.Cond.code ({ cls := "OldWeather$Reader", name := "both", desc := "()LOldWeather$Test;" } : Jvm.MethodName) prog_19_method_13_code (3 : Nat) (Option.some (Jvm.ClassFile.FieldType.object "OldWeather$Test"))) ∈ lw_all := lw_g (lw_at lw_m6 149 rfl) rfl
theorem q1492 : (Jvm.Cond.methodLink "OldWeather$Reader" (152 : Nat) ({ cls := "OldWeather$Reader", name := "plain", desc := "()LOldWeather$Test;" } : Jvm.MethodName)) ∈ lw_all := lw_g (lw_at lw_m6 150 rfl) rfl
theorem q1494 : (Jvm.Cond.instanceMethod ({ cls := "OldWeather$Reader", name := "plain", desc := "()LOldWeather$Test;" } : Jvm.MethodName)) ∈ lw_all := lw_g (lw_at lw_m6 152 rfl) rfl
theorem q1495 : (Jvm.Cond.code ({ cls := "OldWeather$Reader", name := "plain", desc := "()LOldWeather$Test;" } : Jvm.MethodName) prog_19_method_15_code (3 : Nat) (Option.some (Jvm.ClassFile.FieldType.object "OldWeather$Test"))) ∈ lw_all := lw_g (lw_at lw_m6 153 rfl) rfl
theorem q1497 : (Jvm.Cond.methodLink "OldWeather$Reader" (162 : Nat) ({ cls := "OldWeather$Reader", name := "positive", desc := "()LOldWeather$Test;" } : Jvm.MethodName)) ∈ lw_all := lw_g (lw_at lw_m6 155 rfl) rfl
theorem q1499 : (Jvm.Cond.instanceMethod ({ cls := "OldWeather$Reader", name := "positive", desc := "()LOldWeather$Test;" } : Jvm.MethodName)) ∈ lw_all := lw_g (lw_at lw_m6 157 rfl) rfl
theorem q1500 : (Jvm.Cond.code ({ cls := "OldWeather$Reader", name := "positive", desc := "()LOldWeather$Test;" } : Jvm.MethodName) prog_19_method_16_code (3 : Nat) (Option.some (Jvm.ClassFile.FieldType.object "OldWeather$Test"))) ∈ lw_all := lw_g (lw_at lw_m6 158 rfl) rfl
theorem q1508 : (Jvm.Cond.methodLink "OldWeather$Reader" (185 : Nat) ({ cls := "OldWeather$Compare", name := "<init>", desc := "(CLOldWeather$Sum;LOldWeather$Sum;)V" } : Jvm.MethodName)) ∈ lw_all := lw_g (lw_at lw_m6 166 rfl) rfl
theorem q1509 : (Jvm.Cond.instanceMethod ({ cls := "OldWeather$Compare", name := "<init>", desc := "(CLOldWeather$Sum;LOldWeather$Sum;)V" } : Jvm.MethodName)) ∈ lw_all := lw_g (lw_at lw_m6 167 rfl) rfl
theorem q1510 : (Jvm.Cond.code ({ cls := "OldWeather$Compare", name := "<init>", desc := "(CLOldWeather$Sum;LOldWeather$Sum;)V" } : Jvm.MethodName) prog_5_method_1_code (4 : Nat) (Option.none : Option Jvm.ClassFile.FieldType)) ∈ lw_all := lw_g (lw_at lw_m6 168 rfl) rfl
theorem q1511 : (Jvm.Cond.methodLinkNest "OldWeather$Compare" (1 : Nat) ({ cls := "OldWeather$Test", name := "<init>", desc := "()V" } : Jvm.MethodName) "OldWeather") ∈ lw_tbl := lw_at lw_m6 169 rfl
theorem q1512 : (Jvm.Cond.instanceMethod ({ cls := "OldWeather$Test", name := "<init>", desc := "()V" } : Jvm.MethodName)) ∈ lw_all := lw_g (lw_at lw_m6 170 rfl) rfl
theorem q1513 : (Jvm.Cond.code ({ cls := "OldWeather$Test", name := "<init>", desc := "()V" } : Jvm.MethodName) prog_25_method_1_code (1 : Nat) (Option.none : Option Jvm.ClassFile.FieldType)) ∈ lw_all := lw_g (lw_at lw_m6 171 rfl) rfl
theorem q1527 : (Jvm.Cond.methodLink "OldWeather$Reader" (167 : Nat) ({ cls := "OldWeather$Not", name := "<init>", desc := "(LOldWeather$Test;)V" } : Jvm.MethodName)) ∈ lw_all := lw_g (lw_at lw_m6 185 rfl) rfl
theorem q1528 : (Jvm.Cond.instanceMethod ({ cls := "OldWeather$Not", name := "<init>", desc := "(LOldWeather$Test;)V" } : Jvm.MethodName)) ∈ lw_all := lw_g (lw_at lw_m6 186 rfl) rfl
theorem q1529 : (Jvm.Cond.code ({ cls := "OldWeather$Not", name := "<init>", desc := "(LOldWeather$Test;)V" } : Jvm.MethodName) prog_14_method_1_code (2 : Nat) (Option.none : Option Jvm.ClassFile.FieldType)) ∈ lw_all := lw_g (lw_at lw_m6 187 rfl) rfl
theorem q1530 : (Jvm.Cond.methodLinkNest "OldWeather$Not" (1 : Nat) ({ cls := "OldWeather$Test", name := "<init>", desc := "()V" } : Jvm.MethodName) "OldWeather") ∈ lw_tbl := lw_at lw_m6 188 rfl
theorem q1538 : (Jvm.Cond.methodLink "OldWeather$Reader" (146 : Nat) ({ cls := "OldWeather$Several", name := "<init>", desc := "(Z)V" } : Jvm.MethodName)) ∈ lw_all := lw_g (lw_at lw_m6 196 rfl) rfl
theorem q1539 : (Jvm.Cond.instanceMethod ({ cls := "OldWeather$Several", name := "<init>", desc := "(Z)V" } : Jvm.MethodName)) ∈ lw_all := lw_g (lw_at lw_m6 197 rfl) rfl
theorem q1540 : (Jvm.Cond.code ({ cls := "OldWeather$Several", name := "<init>", desc := "(Z)V" } : Jvm.MethodName) prog_23_method_1_code (2 : Nat) (Option.none : Option Jvm.ClassFile.FieldType)) ∈ lw_all := lw_g (lw_at lw_m6 198 rfl) rfl
theorem q1541 : (Jvm.Cond.methodLinkNest "OldWeather$Several" (1 : Nat) ({ cls := "OldWeather$Test", name := "<init>", desc := "()V" } : Jvm.MethodName) "OldWeather") ∈ lw_tbl := lw_at lw_m6 199 rfl
theorem q1543 : (Jvm.Cond.methodLink "OldWeather$Several" (9 : Nat) ({ cls := "java/util/ArrayList", name := "<init>", desc := "(I)V" } : Jvm.MethodName)) ∈ lw_all := lw_g (lw_at lw_m6 201 rfl) rfl
theorem q1556 : (Jvm.Cond.methodLink "OldWeather" (354 : Nat) ({ cls := "OldWeather$Rules", name := "<init>", desc := "(IILjava/util/ArrayList;)V" } : Jvm.MethodName)) ∈ lw_all := lw_g (lw_at lw_m6 214 rfl) rfl
theorem q1557 : (Jvm.Cond.instanceMethod ({ cls := "OldWeather$Rules", name := "<init>", desc := "(IILjava/util/ArrayList;)V" } : Jvm.MethodName)) ∈ lw_all := lw_g (lw_at lw_m6 215 rfl) rfl
theorem q1558 : (Jvm.Cond.code ({ cls := "OldWeather$Rules", name := "<init>", desc := "(IILjava/util/ArrayList;)V" } : Jvm.MethodName) prog_21_method_1_code (4 : Nat) (Option.none : Option Jvm.ClassFile.FieldType)) ∈ lw_all := lw_g (lw_at lw_m6 216 rfl) rfl
theorem q1577 : (Jvm.Cond.code ({ cls := "OldWeather", name := "fault", desc := "()I" } : Jvm.MethodName) prog_1_method_46_code (1 : Nat) (Option.some Jvm.ClassFile.FieldType.int)) ∈ lw_all := lw_g (lw_at lw_m6 235 rfl) rfl
theorem q1581 : (Jvm.Cond.code ({ cls := "OldWeather", name := "force", desc := "(III)I" } : Jvm.MethodName) prog_1_method_47_code (4 : Nat) (Option.some Jvm.ClassFile.FieldType.int)) ∈ lw_all := lw_g (lw_at lw_m6 239 rfl) rfl
theorem q1582 : (Jvm.Cond.methodLink "OldWeather" (360 : Nat) ({ cls := "OldWeather$Force", name := "looks", desc := "(I)V" } : Jvm.MethodName)) ∈ lw_all := lw_g (lw_at lw_m7 0 rfl) rfl
theorem q1583 : (Jvm.Cond.instanceMethod ({ cls := "OldWeather$Force", name := "looks", desc := "(I)V" } : Jvm.MethodName)) ∈ lw_all := lw_g (lw_at lw_m7 1 rfl) rfl
theorem q1584 : (Jvm.Cond.selects "OldWeather$Force" ({ cls := "OldWeather$Force", name := "looks", desc := "(I)V" } : Jvm.MethodName) ({ cls := "OldWeather$Force", name := "looks", desc := "(I)V" } : Jvm.MethodName)) ∈ lw_all := lw_g (lw_at lw_m7 2 rfl) rfl
theorem q1585 : (Jvm.Cond.code ({ cls := "OldWeather$Force", name := "looks", desc := "(I)V" } : Jvm.MethodName) prog_11_method_2_code (5 : Nat) (Option.none : Option Jvm.ClassFile.FieldType)) ∈ lw_all := lw_g (lw_at lw_m7 3 rfl) rfl
theorem q1586 : (Jvm.Cond.methodLink "OldWeather$Force" (40 : Nat) ({ cls := "java/util/ArrayList", name := "size", desc := "()I" } : Jvm.MethodName)) ∈ lw_all := lw_g (lw_at lw_m7 4 rfl) rfl
theorem q1587 : (Jvm.Cond.methodLink "OldWeather$Force" (46 : Nat) ({ cls := "java/util/ArrayList", name := "get", desc := "(I)Ljava/lang/Object;" } : Jvm.MethodName)) ∈ lw_all := lw_g (lw_at lw_m7 5 rfl) rfl
theorem q1589 : (Jvm.Cond.methodLink "OldWeather$Force" (55 : Nat) ({ cls := "OldWeather$Force", name := "goes", desc := "(LOldWeather$Rules;)V" } : Jvm.MethodName)) ∈ lw_all := lw_g (lw_at lw_m7 7 rfl) rfl
theorem q1591 : (Jvm.Cond.instanceMethod ({ cls := "OldWeather$Force", name := "goes", desc := "(LOldWeather$Rules;)V" } : Jvm.MethodName)) ∈ lw_all := lw_g (lw_at lw_m7 9 rfl) rfl
theorem q1592 : (Jvm.Cond.code ({ cls := "OldWeather$Force", name := "goes", desc := "(LOldWeather$Rules;)V" } : Jvm.MethodName) prog_11_method_3_code (5 : Nat) (Option.none : Option Jvm.ClassFile.FieldType)) ∈ lw_all := lw_g (lw_at lw_m7 10 rfl) rfl
theorem q1597 : (Jvm.Cond.code ({ cls := "OldWeather", name := "scale", desc := "(III)I" } : Jvm.MethodName) prog_1_method_54_code (5 : Nat) (Option.some Jvm.ClassFile.FieldType.int)) ∈ lw_all := lw_g (lw_at lw_m7 15 rfl) rfl
theorem q1601 : (Jvm.Cond.code ({ cls := "OldWeather", name := "learned", desc := "(IIII)I" } : Jvm.MethodName) prog_1_method_57_code (6 : Nat) (Option.some Jvm.ClassFile.FieldType.int)) ∈ lw_all := lw_g (lw_at lw_m7 19 rfl) rfl
theorem q1602 : (Jvm.Cond.methodLink "OldWeather" (463 : Nat) ({ cls := "OldWeather$Pairs", name := "looks", desc := "(I)V" } : Jvm.MethodName)) ∈ lw_all := lw_g (lw_at lw_m7 20 rfl) rfl
theorem q1603 : (Jvm.Cond.instanceMethod ({ cls := "OldWeather$Pairs", name := "looks", desc := "(I)V" } : Jvm.MethodName)) ∈ lw_all := lw_g (lw_at lw_m7 21 rfl) rfl
theorem q1604 : (Jvm.Cond.selects "OldWeather$Pairs" ({ cls := "OldWeather$Pairs", name := "looks", desc := "(I)V" } : Jvm.MethodName) ({ cls := "OldWeather$Pairs", name := "looks", desc := "(I)V" } : Jvm.MethodName)) ∈ lw_all := lw_g (lw_at lw_m7 22 rfl) rfl
theorem q1605 : (Jvm.Cond.code ({ cls := "OldWeather$Pairs", name := "looks", desc := "(I)V" } : Jvm.MethodName) prog_17_method_2_code (4 : Nat) (Option.none : Option Jvm.ClassFile.FieldType)) ∈ lw_all := lw_g (lw_at lw_m7 23 rfl) rfl
theorem q1606 : (Jvm.Cond.methodLinkNest "OldWeather$Pairs" (34 : Nat) ({ cls := "OldWeather", name := "dates", desc := "()V" } : Jvm.MethodName) "OldWeather") ∈ lw_tbl := lw_at lw_m7 24 rfl
theorem q1607 : (Jvm.Cond.methodLink "OldWeather$Pairs" (50 : Nat) ({ cls := "java/util/ArrayList", name := "size", desc := "()I" } : Jvm.MethodName)) ∈ lw_all := lw_g (lw_at lw_m7 25 rfl) rfl
theorem q1608 : (Jvm.Cond.methodLink "OldWeather$Pairs" (56 : Nat) ({ cls := "java/util/ArrayList", name := "get", desc := "(I)Ljava/lang/Object;" } : Jvm.MethodName)) ∈ lw_all := lw_g (lw_at lw_m7 26 rfl) rfl
theorem q1611 : (Jvm.Cond.methodLinkNest "OldWeather$Pairs" (65 : Nat) ({ cls := "OldWeather", name := "isSure", desc := "(II)Z" } : Jvm.MethodName) "OldWeather") ∈ lw_tbl := lw_at lw_m7 29 rfl
theorem q1613 : (Jvm.Cond.instanceMethod ({ cls := "OldWeather", name := "isSure", desc := "(II)Z" } : Jvm.MethodName)) ∈ lw_all := lw_g (lw_at lw_m7 31 rfl) rfl
theorem q1614 : (Jvm.Cond.code ({ cls := "OldWeather", name := "isSure", desc := "(II)Z" } : Jvm.MethodName) prog_1_method_55_code (3 : Nat) (Option.some Jvm.ClassFile.FieldType.boolean)) ∈ lw_all := lw_g (lw_at lw_m7 32 rfl) rfl
theorem q1615 : (Jvm.Cond.methodLink "OldWeather" (427 : Nat) ({ cls := "OldWeather", name := "isKnown", desc := "(II)Z" } : Jvm.MethodName)) ∈ lw_all := lw_g (lw_at lw_m7 33 rfl) rfl
theorem q1617 : (Jvm.Cond.instanceMethod ({ cls := "OldWeather", name := "isKnown", desc := "(II)Z" } : Jvm.MethodName)) ∈ lw_all := lw_g (lw_at lw_m7 35 rfl) rfl
theorem q1618 : (Jvm.Cond.code ({ cls := "OldWeather", name := "isKnown", desc := "(II)Z" } : Jvm.MethodName) prog_1_method_50_code (3 : Nat) (Option.some Jvm.ClassFile.FieldType.boolean)) ∈ lw_all := lw_g (lw_at lw_m7 36 rfl) rfl
theorem q1619 : (Jvm.Cond.methodLinkNest "OldWeather$Pairs" (72 : Nat) ({ cls := "OldWeather", name := "in", desc := "(III)Z" } : Jvm.MethodName) "OldWeather") ∈ lw_tbl := lw_at lw_m7 37 rfl
theorem q1620 : (Jvm.Cond.methodLink "OldWeather$Pairs" (76 : Nat) ({ cls := "OldWeather$Pairs", name := "beside", desc := "(II)I" } : Jvm.MethodName)) ∈ lw_all := lw_g (lw_at lw_m7 38 rfl) rfl
theorem q1622 : (Jvm.Cond.instanceMethod ({ cls := "OldWeather$Pairs", name := "beside", desc := "(II)I" } : Jvm.MethodName)) ∈ lw_all := lw_g (lw_at lw_m7 40 rfl) rfl
theorem q1623 : (Jvm.Cond.code ({ cls := "OldWeather$Pairs", name := "beside", desc := "(II)I" } : Jvm.MethodName) prog_17_method_3_code (9 : Nat) (Option.some Jvm.ClassFile.FieldType.int)) ∈ lw_all := lw_g (lw_at lw_m7 41 rfl) rfl
theorem q1624 : (Jvm.Cond.methodLinkNest "OldWeather$Pairs" (89 : Nat) ({ cls := "OldWeather", name := "rightOf", desc := "(III)J" } : Jvm.MethodName) "OldWeather") ∈ lw_tbl := lw_at lw_m7 42 rfl
theorem q1626 : (Jvm.Cond.instanceMethod ({ cls := "OldWeather", name := "rightOf", desc := "(III)J" } : Jvm.MethodName)) ∈ lw_all := lw_g (lw_at lw_m7 44 rfl) rfl
theorem q1627 : (Jvm.Cond.code ({ cls := "OldWeather", name := "rightOf", desc := "(III)J" } : Jvm.MethodName) prog_1_method_51_code (6 : Nat) (Option.some Jvm.ClassFile.FieldType.long)) ∈ lw_all := lw_g (lw_at lw_m7 45 rfl) rfl
theorem q1628 : (Jvm.Cond.methodLink "OldWeather" (405 : Nat) ({ cls := "OldWeather", name := "last", desc := "(IIIII)I" } : Jvm.MethodName)) ∈ lw_all := lw_g (lw_at lw_m7 46 rfl) rfl
theorem q1630 : (Jvm.Cond.instanceMethod ({ cls := "OldWeather", name := "last", desc := "(IIIII)I" } : Jvm.MethodName)) ∈ lw_all := lw_g (lw_at lw_m7 48 rfl) rfl
theorem q1631 : (Jvm.Cond.code ({ cls := "OldWeather", name := "last", desc := "(IIIII)I" } : Jvm.MethodName) prog_1_method_48_code (13 : Nat) (Option.some Jvm.ClassFile.FieldType.int)) ∈ lw_all := lw_g (lw_at lw_m7 49 rfl) rfl
theorem q1633 : (Jvm.Cond.methodLink "OldWeather" (388 : Nat) ({ cls := "OldWeather$Clause", name := "holds", desc := "(LOldWeather$Setting;[J)Z" } : Jvm.MethodName)) ∈ lw_all := lw_g (lw_at lw_m7 51 rfl) rfl
theorem q1634 : (Jvm.Cond.instanceMethod ({ cls := "OldWeather$Clause", name := "holds", desc := "(LOldWeather$Setting;[J)Z" } : Jvm.MethodName)) ∈ lw_all := lw_g (lw_at lw_m7 52 rfl) rfl
theorem q1635 : (Jvm.Cond.selects "OldWeather$Clause" ({ cls := "OldWeather$Clause", name := "holds", desc := "(LOldWeather$Setting;[J)Z" } : Jvm.MethodName) ({ cls := "OldWeather$Clause", name := "holds", desc := "(LOldWeather$Setting;[J)Z" } : Jvm.MethodName)) ∈ lw_all := lw_g (lw_at lw_m7 53 rfl) rfl
theorem q1636 : (Jvm.Cond.codeWith ({ cls := "OldWeather$Clause", name := "holds", desc := "(LOldWeather$Setting;[J)Z" } : Jvm.MethodName) prog_4_method_2_code (7 : Nat) (Option.some Jvm.ClassFile.FieldType.boolean) [((0 : Nat), (19 : Nat), (61 : Nat), (42 : Nat)), ((20 : Nat), (60 : Nat), (61 : Nat), (42 : Nat))]) ∈ lw_all := lw_g (lw_at lw_m7 54 rfl) rfl
theorem q1637 : (Jvm.Cond.classLink "OldWeather$Clause" (42 : Nat) "OldWeather$Broken") ∈ lw_all := lw_g (lw_at lw_m7 55 rfl) rfl
theorem q1638 : (Jvm.Cond.methodLink "OldWeather$Clause" (23 : Nat) ({ cls := "OldWeather$Test", name := "is", desc := "(LOldWeather$Setting;)Z" } : Jvm.MethodName)) ∈ lw_all := lw_g (lw_at lw_m7 56 rfl) rfl
theorem q1639 : (Jvm.Cond.declares ({ cls := "OldWeather$Test", name := "is", desc := "(LOldWeather$Setting;)Z" } : Jvm.MethodName)) ∈ lw_tbl := lw_at lw_m7 57 rfl
theorem q1640 : (Jvm.Cond.sameMethod "OldWeather$Test" "OldWeather$Test" "is" "(LOldWeather$Setting;)Z") ∈ lw_all := lw_g (lw_at lw_m7 58 rfl) rfl
theorem q1641 : (Jvm.Cond.selects "OldWeather$Compare" ({ cls := "OldWeather$Test", name := "is", desc := "(LOldWeather$Setting;)Z" } : Jvm.MethodName) ({ cls := "OldWeather$Compare", name := "is", desc := "(LOldWeather$Setting;)Z" } : Jvm.MethodName)) ∈ lw_all := lw_g (lw_at lw_m7 59 rfl) rfl
theorem q1642 : (Jvm.Cond.instanceMethod ({ cls := "OldWeather$Compare", name := "is", desc := "(LOldWeather$Setting;)Z" } : Jvm.MethodName)) ∈ lw_all := lw_g (lw_at lw_m7 60 rfl) rfl
theorem q1643 : (Jvm.Cond.code ({ cls := "OldWeather$Compare", name := "is", desc := "(LOldWeather$Setting;)Z" } : Jvm.MethodName) prog_5_method_2_code (6 : Nat) (Option.some Jvm.ClassFile.FieldType.boolean)) ∈ lw_all := lw_g (lw_at lw_m7 61 rfl) rfl
theorem q1644 : (Jvm.Cond.methodLink "OldWeather$Compare" (20 : Nat) ({ cls := "OldWeather$Sum", name := "of", desc := "(LOldWeather$Setting;)J" } : Jvm.MethodName)) ∈ lw_all := lw_g (lw_at lw_m7 62 rfl) rfl
theorem q1645 : (Jvm.Cond.declares ({ cls := "OldWeather$Sum", name := "of", desc := "(LOldWeather$Setting;)J" } : Jvm.MethodName)) ∈ lw_tbl := lw_at lw_m7 63 rfl
theorem q1646 : (Jvm.Cond.sameMethod "OldWeather$Sum" "OldWeather$Sum" "of" "(LOldWeather$Setting;)J") ∈ lw_all := lw_g (lw_at lw_m7 64 rfl) rfl
theorem q1647 : (Jvm.Cond.selects "OldWeather$Field" ({ cls := "OldWeather$Sum", name := "of", desc := "(LOldWeather$Setting;)J" } : Jvm.MethodName) ({ cls := "OldWeather$Field", name := "of", desc := "(LOldWeather$Setting;)J" } : Jvm.MethodName)) ∈ lw_all := lw_g (lw_at lw_m7 65 rfl) rfl
theorem q1648 : (Jvm.Cond.instanceMethod ({ cls := "OldWeather$Field", name := "of", desc := "(LOldWeather$Setting;)J" } : Jvm.MethodName)) ∈ lw_all := lw_g (lw_at lw_m7 66 rfl) rfl
theorem q1649 : (Jvm.Cond.code ({ cls := "OldWeather$Field", name := "of", desc := "(LOldWeather$Setting;)J" } : Jvm.MethodName) prog_9_method_2_code (2 : Nat) (Option.some Jvm.ClassFile.FieldType.long)) ∈ lw_all := lw_g (lw_at lw_m7 67 rfl) rfl
theorem q1650 : (Jvm.Cond.methodLink "OldWeather$Field" (13 : Nat) ({ cls := "OldWeather$Setting", name := "field", desc := "(I)J" } : Jvm.MethodName)) ∈ lw_all := lw_g (lw_at lw_m7 68 rfl) rfl
theorem q1651 : (Jvm.Cond.instanceMethod ({ cls := "OldWeather$Setting", name := "field", desc := "(I)J" } : Jvm.MethodName)) ∈ lw_all := lw_g (lw_at lw_m7 69 rfl) rfl
theorem q1652 : (Jvm.Cond.selects "OldWeather$Setting" ({ cls := "OldWeather$Setting", name := "field", desc := "(I)J" } : Jvm.MethodName) ({ cls := "OldWeather$Setting", name := "field", desc := "(I)J" } : Jvm.MethodName)) ∈ lw_all := lw_g (lw_at lw_m7 70 rfl) rfl
theorem q1653 : (Jvm.Cond.code ({ cls := "OldWeather$Setting", name := "field", desc := "(I)J" } : Jvm.MethodName) prog_22_method_2_code (2 : Nat) (Option.some Jvm.ClassFile.FieldType.long)) ∈ lw_all := lw_g (lw_at lw_m7 71 rfl) rfl
theorem q1654 : (Jvm.Cond.selects "OldWeather$Number" ({ cls := "OldWeather$Sum", name := "of", desc := "(LOldWeather$Setting;)J" } : Jvm.MethodName) ({ cls := "OldWeather$Number", name := "of", desc := "(LOldWeather$Setting;)J" } : Jvm.MethodName)) ∈ lw_all := lw_g (lw_at lw_m7 72 rfl) rfl
theorem q1655 : (Jvm.Cond.instanceMethod ({ cls := "OldWeather$Number", name := "of", desc := "(LOldWeather$Setting;)J" } : Jvm.MethodName)) ∈ lw_all := lw_g (lw_at lw_m7 73 rfl) rfl
theorem q1656 : (Jvm.Cond.code ({ cls := "OldWeather$Number", name := "of", desc := "(LOldWeather$Setting;)J" } : Jvm.MethodName) prog_16_method_2_code (2 : Nat) (Option.some Jvm.ClassFile.FieldType.long)) ∈ lw_all := lw_g (lw_at lw_m7 74 rfl) rfl
theorem q1657 : (Jvm.Cond.selects "OldWeather$Turned" ({ cls := "OldWeather$Sum", name := "of", desc := "(LOldWeather$Setting;)J" } : Jvm.MethodName) ({ cls := "OldWeather$Turned", name := "of", desc := "(LOldWeather$Setting;)J" } : Jvm.MethodName)) ∈ lw_all := lw_g (lw_at lw_m7 75 rfl) rfl
theorem q1658 : (Jvm.Cond.instanceMethod ({ cls := "OldWeather$Turned", name := "of", desc := "(LOldWeather$Setting;)J" } : Jvm.MethodName)) ∈ lw_all := lw_g (lw_at lw_m7 76 rfl) rfl
theorem q1659 : (Jvm.Cond.code ({ cls := "OldWeather$Turned", name := "of", desc := "(LOldWeather$Setting;)J" } : Jvm.MethodName) prog_27_method_2_code (2 : Nat) (Option.some Jvm.ClassFile.FieldType.long)) ∈ lw_all := lw_g (lw_at lw_m7 77 rfl) rfl
theorem q1660 : (Jvm.Cond.methodLink "OldWeather$Turned" (13 : Nat) ({ cls := "OldWeather$Sum", name := "of", desc := "(LOldWeather$Setting;)J" } : Jvm.MethodName)) ∈ lw_all := lw_g (lw_at lw_m7 78 rfl) rfl
theorem q1661 : (Jvm.Cond.instanceMethod ({ cls := "OldWeather$Two", name := "of", desc := "(LOldWeather$Setting;)J" } : Jvm.MethodName)) ∈ lw_all := lw_g (lw_at lw_m7 79 rfl) rfl
theorem q1662 : (Jvm.Cond.code ({ cls := "OldWeather$Two", name := "of", desc := "(LOldWeather$Setting;)J" } : Jvm.MethodName) prog_28_method_2_code (8 : Nat) (Option.some Jvm.ClassFile.FieldType.long)) ∈ lw_all := lw_g (lw_at lw_m7 80 rfl) rfl
theorem q1663 : (Jvm.Cond.methodLink "OldWeather$Two" (22 : Nat) ({ cls := "OldWeather$Sum", name := "of", desc := "(LOldWeather$Setting;)J" } : Jvm.MethodName)) ∈ lw_all := lw_g (lw_at lw_m7 81 rfl) rfl
theorem q1666 : (Jvm.Cond.selects "OldWeather$Two" ({ cls := "OldWeather$Sum", name := "of", desc := "(LOldWeather$Setting;)J" } : Jvm.MethodName) ({ cls := "OldWeather$Two", name := "of", desc := "(LOldWeather$Setting;)J" } : Jvm.MethodName)) ∈ lw_all := lw_g (lw_at lw_m7 84 rfl) rfl
theorem q1667 : (Jvm.Cond.selects "OldWeather$Not" ({ cls := "OldWeather$Test", name := "is", desc := "(LOldWeather$Setting;)Z" } : Jvm.MethodName) ({ cls := "OldWeather$Not", name := "is", desc := "(LOldWeather$Setting;)Z" } : Jvm.MethodName)) ∈ lw_all := lw_g (lw_at lw_m7 85 rfl) rfl
theorem q1668 : (Jvm.Cond.instanceMethod ({ cls := "OldWeather$Not", name := "is", desc := "(LOldWeather$Setting;)Z" } : Jvm.MethodName)) ∈ lw_all := lw_g (lw_at lw_m7 86 rfl) rfl
theorem q1669 : (Jvm.Cond.code ({ cls := "OldWeather$Not", name := "is", desc := "(LOldWeather$Setting;)Z" } : Jvm.MethodName) prog_14_method_2_code (2 : Nat) (Option.some Jvm.ClassFile.FieldType.boolean)) ∈ lw_all := lw_g (lw_at lw_m7 87 rfl) rfl
theorem q1670 : (Jvm.Cond.methodLink "OldWeather$Not" (13 : Nat) ({ cls := "OldWeather$Test", name := "is", desc := "(LOldWeather$Setting;)Z" } : Jvm.MethodName)) ∈ lw_all := lw_g (lw_at lw_m7 88 rfl) rfl
theorem q1671 : (Jvm.Cond.instanceMethod ({ cls := "OldWeather$Several", name := "is", desc := "(LOldWeather$Setting;)Z" } : Jvm.MethodName)) ∈ lw_all := lw_g (lw_at lw_m7 89 rfl) rfl
theorem q1672 : (Jvm.Cond.code ({ cls := "OldWeather$Several", name := "is", desc := "(LOldWeather$Setting;)Z" } : Jvm.MethodName) prog_23_method_2_code (3 : Nat) (Option.some Jvm.ClassFile.FieldType.boolean)) ∈ lw_all := lw_g (lw_at lw_m7 90 rfl) rfl
theorem q1673 : (Jvm.Cond.methodLink "OldWeather$Several" (22 : Nat) ({ cls := "java/util/ArrayList", name := "size", desc := "()I" } : Jvm.MethodName)) ∈ lw_all := lw_g (lw_at lw_m7 91 rfl) rfl
theorem q1674 : (Jvm.Cond.methodLink "OldWeather$Several" (26 : Nat) ({ cls := "java/util/ArrayList", name := "get", desc := "(I)Ljava/lang/Object;" } : Jvm.MethodName)) ∈ lw_all := lw_g (lw_at lw_m7 92 rfl) rfl
theorem q1676 : (Jvm.Cond.methodLink "OldWeather$Several" (30 : Nat) ({ cls := "OldWeather$Test", name := "is", desc := "(LOldWeather$Setting;)Z" } : Jvm.MethodName)) ∈ lw_all := lw_g (lw_at lw_m7 94 rfl) rfl
theorem q1677 : (Jvm.Cond.selects "OldWeather$Several" ({ cls := "OldWeather$Test", name := "is", desc := "(LOldWeather$Setting;)Z" } : Jvm.MethodName) ({ cls := "OldWeather$Several", name := "is", desc := "(LOldWeather$Setting;)Z" } : Jvm.MethodName)) ∈ lw_all := lw_g (lw_at lw_m7 95 rfl) rfl
theorem q1678 : (Jvm.Cond.methodLink "OldWeather$Clause" (33 : Nat) ({ cls := "OldWeather$Sum", name := "of", desc := "(LOldWeather$Setting;)J" } : Jvm.MethodName)) ∈ lw_all := lw_g (lw_at lw_m7 96 rfl) rfl
theorem q1679 : (Jvm.Cond.methodLink "OldWeather" (471 : Nat) ({ cls := "OldWeather$Pairs", name := "held", desc := "(I)I" } : Jvm.MethodName)) ∈ lw_all := lw_g (lw_at lw_m7 97 rfl) rfl
theorem q1680 : (Jvm.Cond.instanceMethod ({ cls := "OldWeather$Pairs", name := "held", desc := "(I)I" } : Jvm.MethodName)) ∈ lw_all := lw_g (lw_at lw_m7 98 rfl) rfl
theorem q1681 : (Jvm.Cond.selects "OldWeather$Pairs" ({ cls := "OldWeather$Pairs", name := "held", desc := "(I)I" } : Jvm.MethodName) ({ cls := "OldWeather$Pairs", name := "held", desc := "(I)I" } : Jvm.MethodName)) ∈ lw_all := lw_g (lw_at lw_m7 99 rfl) rfl
theorem q1682 : (Jvm.Cond.code ({ cls := "OldWeather$Pairs", name := "held", desc := "(I)I" } : Jvm.MethodName) prog_17_method_5_code (4 : Nat) (Option.some Jvm.ClassFile.FieldType.int)) ∈ lw_all := lw_g (lw_at lw_m7 100 rfl) rfl
theorem q1683 : (Jvm.Cond.methodLink "OldWeather$Pairs" (96 : Nat) ({ cls := "OldWeather$Pairs", name := "end", desc := "(IZI)J" } : Jvm.MethodName)) ∈ lw_all := lw_g (lw_at lw_m7 101 rfl) rfl
theorem q1684 : (Jvm.Cond.instanceMethod ({ cls := "OldWeather$Pairs", name := "end", desc := "(IZI)J" } : Jvm.MethodName)) ∈ lw_all := lw_g (lw_at lw_m7 102 rfl) rfl
theorem q1685 : (Jvm.Cond.selects "OldWeather$Pairs" ({ cls := "OldWeather$Pairs", name := "end", desc := "(IZI)J" } : Jvm.MethodName) ({ cls := "OldWeather$Pairs", name := "end", desc := "(IZI)J" } : Jvm.MethodName)) ∈ lw_all := lw_g (lw_at lw_m7 103 rfl) rfl
theorem q1686 : (Jvm.Cond.code ({ cls := "OldWeather$Pairs", name := "end", desc := "(IZI)J" } : Jvm.MethodName) prog_17_method_4_code (8 : Nat) (Option.some Jvm.ClassFile.FieldType.long)) ∈ lw_all := lw_g (lw_at lw_m7 104 rfl) rfl
theorem q1687 : (Jvm.Cond.methodLink "OldWeather" (450 : Nat) ({ cls := "OldWeather", name := "learns", desc := "(III)Z" } : Jvm.MethodName)) ∈ lw_all := lw_g (lw_at lw_m7 105 rfl) rfl
theorem q1689 : (Jvm.Cond.instanceMethod ({ cls := "OldWeather", name := "learns", desc := "(III)Z" } : Jvm.MethodName)) ∈ lw_all := lw_g (lw_at lw_m7 107 rfl) rfl
theorem q1690 : (Jvm.Cond.code ({ cls := "OldWeather", name := "learns", desc := "(III)Z" } : Jvm.MethodName) prog_1_method_56_code (15 : Nat) (Option.some Jvm.ClassFile.FieldType.boolean)) ∈ lw_all := lw_g (lw_at lw_m7 108 rfl) rfl
theorem q1691 : (Jvm.Cond.methodLink "OldWeather" (467 : Nat) ({ cls := "OldWeather$Pairs", name := "end", desc := "(IZI)J" } : Jvm.MethodName)) ∈ lw_all := lw_g (lw_at lw_m7 109 rfl) rfl
theorem q1697 : (Jvm.Cond.code ({ cls := "OldWeather", name := "bound", desc := "(III)I" } : Jvm.MethodName) prog_1_method_59_code (4 : Nat) (Option.some Jvm.ClassFile.FieldType.int)) ∈ lw_all := lw_g (lw_at lw_m7 115 rfl) rfl
theorem q1698 : (Jvm.Cond.methodLink "OldWeather" (474 : Nat) ({ cls := "OldWeather$Desk", name := "looks", desc := "(I)V" } : Jvm.MethodName)) ∈ lw_all := lw_g (lw_at lw_m7 116 rfl) rfl
theorem q1699 : (Jvm.Cond.instanceMethod ({ cls := "OldWeather$Desk", name := "looks", desc := "(I)V" } : Jvm.MethodName)) ∈ lw_all := lw_g (lw_at lw_m7 117 rfl) rfl
theorem q1700 : (Jvm.Cond.selects "OldWeather$Desk" ({ cls := "OldWeather$Desk", name := "looks", desc := "(I)V" } : Jvm.MethodName) ({ cls := "OldWeather$Desk", name := "looks", desc := "(I)V" } : Jvm.MethodName)) ∈ lw_all := lw_g (lw_at lw_m7 118 rfl) rfl
theorem q1701 : (Jvm.Cond.code ({ cls := "OldWeather$Desk", name := "looks", desc := "(I)V" } : Jvm.MethodName) prog_7_method_2_code (4 : Nat) (Option.none : Option Jvm.ClassFile.FieldType)) ∈ lw_all := lw_g (lw_at lw_m7 119 rfl) rfl
theorem q1702 : (Jvm.Cond.methodLinkNest "OldWeather$Desk" (50 : Nat) ({ cls := "OldWeather", name := "dates", desc := "()V" } : Jvm.MethodName) "OldWeather") ∈ lw_tbl := lw_at lw_m7 120 rfl
theorem q1703 : (Jvm.Cond.methodLink "OldWeather$Desk" (53 : Nat) ({ cls := "OldWeather$Desk", name := "joins", desc := "(I)V" } : Jvm.MethodName)) ∈ lw_all := lw_g (lw_at lw_m7 121 rfl) rfl
theorem q1705 : (Jvm.Cond.instanceMethod ({ cls := "OldWeather$Desk", name := "joins", desc := "(I)V" } : Jvm.MethodName)) ∈ lw_all := lw_g (lw_at lw_m7 123 rfl) rfl
theorem q1706 : (Jvm.Cond.code ({ cls := "OldWeather$Desk", name := "joins", desc := "(I)V" } : Jvm.MethodName) prog_7_method_3_code (4 : Nat) (Option.none : Option Jvm.ClassFile.FieldType)) ∈ lw_all := lw_g (lw_at lw_m7 124 rfl) rfl
theorem q1707 : (Jvm.Cond.methodLink "OldWeather$Desk" (111 : Nat) ({ cls := "OldWeather$Force", name := "looks", desc := "(I)V" } : Jvm.MethodName)) ∈ lw_all := lw_g (lw_at lw_m7 125 rfl) rfl
theorem q1708 : (Jvm.Cond.methodLink "OldWeather$Desk" (119 : Nat) ({ cls := "OldWeather$Desk", name := "sharesOf", desc := "(III)I" } : Jvm.MethodName)) ∈ lw_all := lw_g (lw_at lw_m7 126 rfl) rfl
theorem q1710 : (Jvm.Cond.instanceMethod ({ cls := "OldWeather$Desk", name := "sharesOf", desc := "(III)I" } : Jvm.MethodName)) ∈ lw_all := lw_g (lw_at lw_m7 128 rfl) rfl
theorem q1711 : (Jvm.Cond.code ({ cls := "OldWeather$Desk", name := "sharesOf", desc := "(III)I" } : Jvm.MethodName) prog_7_method_5_code (7 : Nat) (Option.some Jvm.ClassFile.FieldType.int)) ∈ lw_all := lw_g (lw_at lw_m7 129 rfl) rfl
theorem q1712 : (Jvm.Cond.methodLink "OldWeather$Desk" (67 : Nat) ({ cls := "java/util/ArrayList", name := "size", desc := "()I" } : Jvm.MethodName)) ∈ lw_all := lw_g (lw_at lw_m7 130 rfl) rfl
theorem q1713 : (Jvm.Cond.methodLink "OldWeather$Desk" (142 : Nat) ({ cls := "java/util/ArrayList", name := "get", desc := "(I)Ljava/lang/Object;" } : Jvm.MethodName)) ∈ lw_all := lw_g (lw_at lw_m7 131 rfl) rfl
theorem q1715 : (Jvm.Cond.methodLink "OldWeather$Desk" (126 : Nat) ({ cls := "java/lang/Math", name := "min", desc := "(II)I" } : Jvm.MethodName)) ∈ lw_all := lw_g (lw_at lw_m7 133 rfl) rfl
theorem q1716 : (Jvm.Cond.methodLink "OldWeather$Desk" (132 : Nat) ({ cls := "java/lang/Math", name := "max", desc := "(II)I" } : Jvm.MethodName)) ∈ lw_all := lw_g (lw_at lw_m7 134 rfl) rfl
theorem q1717 : (Jvm.Cond.methodLink "OldWeather$Desk" (135 : Nat) ({ cls := "OldWeather$Desk", name := "merges", desc := "(II)V" } : Jvm.MethodName)) ∈ lw_all := lw_g (lw_at lw_m7 135 rfl) rfl
theorem q1719 : (Jvm.Cond.instanceMethod ({ cls := "OldWeather$Desk", name := "merges", desc := "(II)V" } : Jvm.MethodName)) ∈ lw_all := lw_g (lw_at lw_m7 137 rfl) rfl
theorem q1720 : (Jvm.Cond.code ({ cls := "OldWeather$Desk", name := "merges", desc := "(II)V" } : Jvm.MethodName) prog_7_method_4_code (4 : Nat) (Option.none : Option Jvm.ClassFile.FieldType)) ∈ lw_all := lw_g (lw_at lw_m7 138 rfl) rfl
theorem q1721 : (Jvm.Cond.methodLinkNest "OldWeather$Desk" (73 : Nat) ({ cls := "OldWeather", name := "isKnown", desc := "(II)Z" } : Jvm.MethodName) "OldWeather") ∈ lw_tbl := lw_at lw_m7 139 rfl
theorem q1722 : (Jvm.Cond.methodLinkNest "OldWeather$Desk" (80 : Nat) ({ cls := "OldWeather", name := "bounds", desc := "(III)Z" } : Jvm.MethodName) "OldWeather") ∈ lw_tbl := lw_at lw_m7 140 rfl
theorem q1724 : (Jvm.Cond.instanceMethod ({ cls := "OldWeather", name := "bounds", desc := "(III)Z" } : Jvm.MethodName)) ∈ lw_all := lw_g (lw_at lw_m7 142 rfl) rfl
theorem q1725 : (Jvm.Cond.code ({ cls := "OldWeather", name := "bounds", desc := "(III)Z" } : Jvm.MethodName) prog_1_method_53_code (10 : Nat) (Option.some Jvm.ClassFile.FieldType.boolean)) ∈ lw_all := lw_g (lw_at lw_m7 143 rfl) rfl
theorem q1730 : (Jvm.Cond.methodLink "OldWeather" (433 : Nat) ({ cls := "OldWeather", name := "rightOf", desc := "(III)J" } : Jvm.MethodName)) ∈ lw_all := lw_g (lw_at lw_m7 148 rfl) rfl
theorem q1732 : (Jvm.Cond.methodLink "OldWeather" (439 : Nat) ({ cls := "java/lang/Math", name := "abs", desc := "(J)J" } : Jvm.MethodName)) ∈ lw_all := lw_g (lw_at lw_m7 150 rfl) rfl
theorem q1733 : (Jvm.Cond.static ({ cls := "java/lang/Math", name := "abs", desc := "(J)J" } : Jvm.MethodName)) ∈ lw_all := lw_g (lw_at lw_m7 151 rfl) rfl
theorem q1734 : (Jvm.Cond.code ({ cls := "java/lang/Math", name := "abs", desc := "(J)J" } : Jvm.MethodName) prog_43_method_61_code (2 : Nat) (Option.some Jvm.ClassFile.FieldType.long)) ∈ lw_all := lw_g (lw_at lw_m7 152 rfl) rfl
theorem q1735 : (Jvm.Cond.methodLink "OldWeather" (443 : Nat) ({ cls := "OldWeather", name := "spans", desc := "(JJ)Z" } : Jvm.MethodName)) ∈ lw_all := lw_g (lw_at lw_m7 153 rfl) rfl
theorem q1737 : (Jvm.Cond.instanceMethod ({ cls := "OldWeather", name := "spans", desc := "(JJ)Z" } : Jvm.MethodName)) ∈ lw_all := lw_g (lw_at lw_m7 155 rfl) rfl
theorem q1738 : (Jvm.Cond.code ({ cls := "OldWeather", name := "spans", desc := "(JJ)Z" } : Jvm.MethodName) prog_1_method_52_code (5 : Nat) (Option.some Jvm.ClassFile.FieldType.boolean)) ∈ lw_all := lw_g (lw_at lw_m7 156 rfl) rfl
theorem q1739 : (Jvm.Cond.methodLink "OldWeather" (408 : Nat) ({ cls := "OldWeather", name := "within", desc := "(J)I" } : Jvm.MethodName)) ∈ lw_all := lw_g (lw_at lw_m7 157 rfl) rfl
theorem q1740 : (Jvm.Cond.static ({ cls := "OldWeather", name := "within", desc := "(J)I" } : Jvm.MethodName)) ∈ lw_all := lw_g (lw_at lw_m7 158 rfl) rfl
theorem q1741 : (Jvm.Cond.code ({ cls := "OldWeather", name := "within", desc := "(J)I" } : Jvm.MethodName) prog_1_method_49_code (2 : Nat) (Option.some Jvm.ClassFile.FieldType.int)) ∈ lw_all := lw_g (lw_at lw_m7 159 rfl) rfl
theorem q1742 : (Jvm.Cond.methodLink "OldWeather" (396 : Nat) ({ cls := "java/lang/Math", name := "min", desc := "(JJ)J" } : Jvm.MethodName)) ∈ lw_all := lw_g (lw_at lw_m7 160 rfl) rfl
theorem q1743 : (Jvm.Cond.static ({ cls := "java/lang/Math", name := "min", desc := "(JJ)J" } : Jvm.MethodName)) ∈ lw_all := lw_g (lw_at lw_m7 161 rfl) rfl
theorem q1744 : (Jvm.Cond.code ({ cls := "java/lang/Math", name := "min", desc := "(JJ)J" } : Jvm.MethodName) prog_43_method_70_code (4 : Nat) (Option.some Jvm.ClassFile.FieldType.long)) ∈ lw_all := lw_g (lw_at lw_m7 162 rfl) rfl
theorem q1745 : (Jvm.Cond.methodLink "OldWeather" (400 : Nat) ({ cls := "java/lang/Math", name := "max", desc := "(JJ)J" } : Jvm.MethodName)) ∈ lw_all := lw_g (lw_at lw_m7 163 rfl) rfl
theorem q1746 : (Jvm.Cond.static ({ cls := "java/lang/Math", name := "max", desc := "(JJ)J" } : Jvm.MethodName)) ∈ lw_all := lw_g (lw_at lw_m7 164 rfl) rfl
theorem q1747 : (Jvm.Cond.code ({ cls := "java/lang/Math", name := "max", desc := "(JJ)J" } : Jvm.MethodName) prog_43_method_66_code (4 : Nat) (Option.some Jvm.ClassFile.FieldType.long)) ∈ lw_all := lw_g (lw_at lw_m7 165 rfl) rfl
theorem q1748 : (Jvm.Cond.methodLinkNest "OldWeather$Desk" (96 : Nat) ({ cls := "OldWeather", name := "weightOf", desc := "(III)J" } : Jvm.MethodName) "OldWeather") ∈ lw_tbl := lw_at lw_m7 166 rfl
theorem q1750 : (Jvm.Cond.instanceMethod ({ cls := "OldWeather", name := "weightOf", desc := "(III)J" } : Jvm.MethodName)) ∈ lw_all := lw_g (lw_at lw_m7 168 rfl) rfl
theorem q1751 : (Jvm.Cond.code ({ cls := "OldWeather", name := "weightOf", desc := "(III)J" } : Jvm.MethodName) prog_1_method_58_code (5 : Nat) (Option.some Jvm.ClassFile.FieldType.long)) ∈ lw_all := lw_g (lw_at lw_m7 169 rfl) rfl
theorem q1752 : (Jvm.Cond.methodLink "OldWeather$Desk" (100 : Nat) ({ cls := "OldWeather$Desk", name := "isStopped", desc := "(I)Z" } : Jvm.MethodName)) ∈ lw_all := lw_g (lw_at lw_m7 170 rfl) rfl
theorem q1754 : (Jvm.Cond.instanceMethod ({ cls := "OldWeather$Desk", name := "isStopped", desc := "(I)Z" } : Jvm.MethodName)) ∈ lw_all := lw_g (lw_at lw_m7 172 rfl) rfl
theorem q1755 : (Jvm.Cond.code ({ cls := "OldWeather$Desk", name := "isStopped", desc := "(I)Z" } : Jvm.MethodName) prog_7_method_6_code (3 : Nat) (Option.some Jvm.ClassFile.FieldType.boolean)) ∈ lw_all := lw_g (lw_at lw_m7 173 rfl) rfl
theorem q1757 : (Jvm.Cond.methodLink "OldWeather$Desk" (104 : Nat) ({ cls := "OldWeather$Desk", name := "isTold", desc := "(II)Z" } : Jvm.MethodName)) ∈ lw_all := lw_g (lw_at lw_m7 175 rfl) rfl
theorem q1759 : (Jvm.Cond.instanceMethod ({ cls := "OldWeather$Desk", name := "isTold", desc := "(II)Z" } : Jvm.MethodName)) ∈ lw_all := lw_g (lw_at lw_m7 177 rfl) rfl
theorem q1760 : (Jvm.Cond.code ({ cls := "OldWeather$Desk", name := "isTold", desc := "(II)Z" } : Jvm.MethodName) prog_7_method_7_code (6 : Nat) (Option.some Jvm.ClassFile.FieldType.boolean)) ∈ lw_all := lw_g (lw_at lw_m7 178 rfl) rfl
theorem q1764 : (Jvm.Cond.code ({ cls := "OldWeather", name := "slip", desc := "(III)I" } : Jvm.MethodName) prog_1_method_60_code (4 : Nat) (Option.some Jvm.ClassFile.FieldType.int)) ∈ lw_all := lw_g (lw_at lw_m7 182 rfl) rfl
theorem q1767 : (Jvm.Cond.methodLink "OldWeather" (495 : Nat) ({ cls := "OldWeather$Note", name := "<init>", desc := "(IIIII)V" } : Jvm.MethodName)) ∈ lw_all := lw_g (lw_at lw_m7 185 rfl) rfl
theorem q1768 : (Jvm.Cond.instanceMethod ({ cls := "OldWeather$Note", name := "<init>", desc := "(IIIII)V" } : Jvm.MethodName)) ∈ lw_all := lw_g (lw_at lw_m7 186 rfl) rfl
theorem q1769 : (Jvm.Cond.code ({ cls := "OldWeather$Note", name := "<init>", desc := "(IIIII)V" } : Jvm.MethodName) prog_15_method_1_code (6 : Nat) (Option.none : Option Jvm.ClassFile.FieldType)) ∈ lw_all := lw_g (lw_at lw_m7 187 rfl) rfl
theorem q1798 : (Jvm.Cond.code ({ cls := "OldWeather", name := "same", desc := "(II)I" } : Jvm.MethodName) prog_1_method_61_code (3 : Nat) (Option.some Jvm.ClassFile.FieldType.int)) ∈ lw_all := lw_g (lw_at lw_m7 216 rfl) rfl
theorem q1802 : (Jvm.Cond.code ({ cls := "OldWeather", name := "counts", desc := "(II)I" } : Jvm.MethodName) prog_1_method_62_code (3 : Nat) (Option.some Jvm.ClassFile.FieldType.int)) ∈ lw_all := lw_g (lw_at lw_m7 220 rfl) rfl
theorem q1806 : (Jvm.Cond.code ({ cls := "OldWeather", name := "joined", desc := "(IIII)I" } : Jvm.MethodName) prog_1_method_66_code (5 : Nat) (Option.some Jvm.ClassFile.FieldType.int)) ∈ lw_all := lw_g (lw_at lw_m7 224 rfl) rfl
theorem q1807 : (Jvm.Cond.methodLink "OldWeather" (543 : Nat) ({ cls := "OldWeather", name := "joins", desc := "(IIIIZ)V" } : Jvm.MethodName)) ∈ lw_all := lw_g (lw_at lw_m7 225 rfl) rfl
theorem q1809 : (Jvm.Cond.instanceMethod ({ cls := "OldWeather", name := "joins", desc := "(IIIIZ)V" } : Jvm.MethodName)) ∈ lw_all := lw_g (lw_at lw_m7 227 rfl) rfl
theorem q1810 : (Jvm.Cond.code ({ cls := "OldWeather", name := "joins", desc := "(IIIIZ)V" } : Jvm.MethodName) prog_1_method_63_code (18 : Nat) (Option.none : Option Jvm.ClassFile.FieldType)) ∈ lw_all := lw_g (lw_at lw_m7 228 rfl) rfl
theorem q1811 : (Jvm.Cond.methodLink "OldWeather" (513 : Nat) ({ cls := "OldWeather", name := "isOn", desc := "(IIIZ)Z" } : Jvm.MethodName)) ∈ lw_all := lw_g (lw_at lw_m7 229 rfl) rfl
theorem q1813 : (Jvm.Cond.instanceMethod ({ cls := "OldWeather", name := "isOn", desc := "(IIIZ)Z" } : Jvm.MethodName)) ∈ lw_all := lw_g (lw_at lw_m7 231 rfl) rfl
theorem q1814 : (Jvm.Cond.code ({ cls := "OldWeather", name := "isOn", desc := "(IIIZ)Z" } : Jvm.MethodName) prog_1_method_64_code (8 : Nat) (Option.some Jvm.ClassFile.FieldType.boolean)) ∈ lw_all := lw_g (lw_at lw_m7 232 rfl) rfl
theorem q1815 : (Jvm.Cond.methodLink "OldWeather" (537 : Nat) ({ cls := "OldWeather", name := "bounds", desc := "(III)Z" } : Jvm.MethodName)) ∈ lw_all := lw_g (lw_at lw_m7 233 rfl) rfl
theorem q1816 : (Jvm.Cond.methodLink "OldWeather" (540 : Nat) ({ cls := "OldWeather", name := "weightOf", desc := "(III)J" } : Jvm.MethodName)) ∈ lw_all := lw_g (lw_at lw_m7 234 rfl) rfl
theorem q1817 : (Jvm.Cond.methodLink "OldWeather" (517 : Nat) ({ cls := "java/lang/Math", name := "min", desc := "(II)I" } : Jvm.MethodName)) ∈ lw_all := lw_g (lw_at lw_m7 235 rfl) rfl
theorem q1819 : (Jvm.Cond.methodLink "OldWeather" (531 : Nat) ({ cls := "java/lang/Math", name := "floorDiv", desc := "(JJ)J" } : Jvm.MethodName)) ∈ lw_all := lw_g (lw_at lw_m7 237 rfl) rfl
theorem q1820 : (Jvm.Cond.static ({ cls := "java/lang/Math", name := "floorDiv", desc := "(JJ)J" } : Jvm.MethodName)) ∈ lw_all := lw_g (lw_at lw_m7 238 rfl) rfl
theorem q1821 : (Jvm.Cond.code ({ cls := "java/lang/Math", name := "floorDiv", desc := "(JJ)J" } : Jvm.MethodName) prog_43_method_49_code (6 : Nat) (Option.some Jvm.ClassFile.FieldType.long)) ∈ lw_all := lw_g (lw_at lw_m7 239 rfl) rfl
theorem q1822 : (Jvm.Cond.methodLink "OldWeather" (547 : Nat) ({ cls := "OldWeather", name := "tells", desc := "(I)I" } : Jvm.MethodName)) ∈ lw_all := lw_g (lw_at lw_m8 0 rfl) rfl
theorem q1824 : (Jvm.Cond.instanceMethod ({ cls := "OldWeather", name := "tells", desc := "(I)I" } : Jvm.MethodName)) ∈ lw_all := lw_g (lw_at lw_m8 2 rfl) rfl
theorem q1825 : (Jvm.Cond.code ({ cls := "OldWeather", name := "tells", desc := "(I)I" } : Jvm.MethodName) prog_1_method_65_code (2 : Nat) (Option.some Jvm.ClassFile.FieldType.int)) ∈ lw_all := lw_g (lw_at lw_m8 3 rfl) rfl
theorem q1829 : (Jvm.Cond.code ({ cls := "OldWeather", name := "led", desc := "(IIII)I" } : Jvm.MethodName) prog_1_method_67_code (5 : Nat) (Option.some Jvm.ClassFile.FieldType.int)) ∈ lw_all := lw_g (lw_at lw_m8 7 rfl) rfl
theorem q1833 : (Jvm.Cond.code ({ cls := "OldWeather", name := "left", desc := "(IIIII)I" } : Jvm.MethodName) prog_1_method_68_code (10 : Nat) (Option.some Jvm.ClassFile.FieldType.int)) ∈ lw_all := lw_g (lw_at lw_m8 11 rfl) rfl
theorem q1834 : (Jvm.Cond.methodLink "OldWeather" (550 : Nat) ({ cls := "OldWeather$Desk", name := "isJoined", desc := "(I)Z" } : Jvm.MethodName)) ∈ lw_all := lw_g (lw_at lw_m8 12 rfl) rfl
theorem q1835 : (Jvm.Cond.instanceMethod ({ cls := "OldWeather$Desk", name := "isJoined", desc := "(I)Z" } : Jvm.MethodName)) ∈ lw_all := lw_g (lw_at lw_m8 13 rfl) rfl
theorem q1836 : (Jvm.Cond.selects "OldWeather$Desk" ({ cls := "OldWeather$Desk", name := "isJoined", desc := "(I)Z" } : Jvm.MethodName) ({ cls := "OldWeather$Desk", name := "isJoined", desc := "(I)Z" } : Jvm.MethodName)) ∈ lw_all := lw_g (lw_at lw_m8 14 rfl) rfl
theorem q1837 : (Jvm.Cond.code ({ cls := "OldWeather$Desk", name := "isJoined", desc := "(I)Z" } : Jvm.MethodName) prog_7_method_8_code (2 : Nat) (Option.some Jvm.ClassFile.FieldType.boolean)) ∈ lw_all := lw_g (lw_at lw_m8 15 rfl) rfl
theorem q1838 : (Jvm.Cond.methodLink "OldWeather" (553 : Nat) ({ cls := "java/lang/Math", name := "floorDiv", desc := "(II)I" } : Jvm.MethodName)) ∈ lw_all := lw_g (lw_at lw_m8 16 rfl) rfl
theorem q1839 : (Jvm.Cond.static ({ cls := "java/lang/Math", name := "floorDiv", desc := "(II)I" } : Jvm.MethodName)) ∈ lw_all := lw_g (lw_at lw_m8 17 rfl) rfl
theorem q1840 : (Jvm.Cond.code ({ cls := "java/lang/Math", name := "floorDiv", desc := "(II)I" } : Jvm.MethodName) prog_43_method_47_code (3 : Nat) (Option.some Jvm.ClassFile.FieldType.int)) ∈ lw_all := lw_g (lw_at lw_m8 18 rfl) rfl
theorem q1844 : (Jvm.Cond.code ({ cls := "OldWeather", name := "wish", desc := "(I)I" } : Jvm.MethodName) prog_1_method_69_code (3 : Nat) (Option.some Jvm.ClassFile.FieldType.int)) ∈ lw_all := lw_g (lw_at lw_m8 22 rfl) rfl
theorem q1848 : (Jvm.Cond.code ({ cls := "OldWeather", name := "clear", desc := "()I" } : Jvm.MethodName) prog_1_method_70_code (2 : Nat) (Option.some Jvm.ClassFile.FieldType.int)) ∈ lw_all := lw_g (lw_at lw_m8 26 rfl) rfl
theorem q1852 : (Jvm.Cond.code ({ cls := "OldWeather", name := "best", desc := "(I)I" } : Jvm.MethodName) prog_1_method_78_code (3 : Nat) (Option.some Jvm.ClassFile.FieldType.int)) ∈ lw_all := lw_g (lw_at lw_m8 30 rfl) rfl
theorem q1853 : (Jvm.Cond.methodLink "OldWeather" (591 : Nat) ({ cls := "OldWeather", name := "quarrels", desc := "(I)V" } : Jvm.MethodName)) ∈ lw_all := lw_g (lw_at lw_m8 31 rfl) rfl
theorem q1855 : (Jvm.Cond.instanceMethod ({ cls := "OldWeather", name := "quarrels", desc := "(I)V" } : Jvm.MethodName)) ∈ lw_all := lw_g (lw_at lw_m8 33 rfl) rfl
theorem q1856 : (Jvm.Cond.code ({ cls := "OldWeather", name := "quarrels", desc := "(I)V" } : Jvm.MethodName) prog_1_method_72_code (9 : Nat) (Option.none : Option Jvm.ClassFile.FieldType)) ∈ lw_all := lw_g (lw_at lw_m8 34 rfl) rfl
theorem q1857 : (Jvm.Cond.methodLink "OldWeather" (558 : Nat) ({ cls := "OldWeather", name := "wishOf", desc := "(I)I" } : Jvm.MethodName)) ∈ lw_all := lw_g (lw_at lw_m8 35 rfl) rfl
theorem q1859 : (Jvm.Cond.instanceMethod ({ cls := "OldWeather", name := "wishOf", desc := "(I)I" } : Jvm.MethodName)) ∈ lw_all := lw_g (lw_at lw_m8 37 rfl) rfl
theorem q1860 : (Jvm.Cond.code ({ cls := "OldWeather", name := "wishOf", desc := "(I)I" } : Jvm.MethodName) prog_1_method_71_code (3 : Nat) (Option.some Jvm.ClassFile.FieldType.int)) ∈ lw_all := lw_g (lw_at lw_m8 38 rfl) rfl
theorem q1861 : (Jvm.Cond.methodLink "OldWeather" (561 : Nat) ({ cls := "OldWeather", name := "areLike", desc := "(II)Z" } : Jvm.MethodName)) ∈ lw_all := lw_g (lw_at lw_m8 39 rfl) rfl
theorem q1863 : (Jvm.Cond.instanceMethod ({ cls := "OldWeather", name := "areLike", desc := "(II)Z" } : Jvm.MethodName)) ∈ lw_all := lw_g (lw_at lw_m8 41 rfl) rfl
theorem q1864 : (Jvm.Cond.code ({ cls := "OldWeather", name := "areLike", desc := "(II)Z" } : Jvm.MethodName) prog_1_method_74_code (3 : Nat) (Option.some Jvm.ClassFile.FieldType.boolean)) ∈ lw_all := lw_g (lw_at lw_m8 42 rfl) rfl
theorem q1865 : (Jvm.Cond.methodLink "OldWeather" (564 : Nat) ({ cls := "OldWeather", name := "quarrel", desc := "(IIII)Z" } : Jvm.MethodName)) ∈ lw_all := lw_g (lw_at lw_m8 43 rfl) rfl
theorem q1867 : (Jvm.Cond.instanceMethod ({ cls := "OldWeather", name := "quarrel", desc := "(IIII)Z" } : Jvm.MethodName)) ∈ lw_all := lw_g (lw_at lw_m8 45 rfl) rfl
theorem q1868 : (Jvm.Cond.code ({ cls := "OldWeather", name := "quarrel", desc := "(IIII)Z" } : Jvm.MethodName) prog_1_method_75_code (7 : Nat) (Option.some Jvm.ClassFile.FieldType.boolean)) ∈ lw_all := lw_g (lw_at lw_m8 46 rfl) rfl
theorem q1869 : (Jvm.Cond.methodLink "OldWeather" (567 : Nat) ({ cls := "OldWeather", name := "counts", desc := "(IIII)V" } : Jvm.MethodName)) ∈ lw_all := lw_g (lw_at lw_m8 47 rfl) rfl
theorem q1871 : (Jvm.Cond.instanceMethod ({ cls := "OldWeather", name := "counts", desc := "(IIII)V" } : Jvm.MethodName)) ∈ lw_all := lw_g (lw_at lw_m8 49 rfl) rfl
theorem q1872 : (Jvm.Cond.code ({ cls := "OldWeather", name := "counts", desc := "(IIII)V" } : Jvm.MethodName) prog_1_method_73_code (5 : Nat) (Option.none : Option Jvm.ClassFile.FieldType)) ∈ lw_all := lw_g (lw_at lw_m8 50 rfl) rfl
theorem q1873 : (Jvm.Cond.methodLink "OldWeather" (570 : Nat) ({ cls := "OldWeather", name := "tries", desc := "(I)V" } : Jvm.MethodName)) ∈ lw_all := lw_g (lw_at lw_m8 51 rfl) rfl
theorem q1875 : (Jvm.Cond.instanceMethod ({ cls := "OldWeather", name := "tries", desc := "(I)V" } : Jvm.MethodName)) ∈ lw_all := lw_g (lw_at lw_m8 53 rfl) rfl
theorem q1876 : (Jvm.Cond.code ({ cls := "OldWeather", name := "tries", desc := "(I)V" } : Jvm.MethodName) prog_1_method_77_code (5 : Nat) (Option.none : Option Jvm.ClassFile.FieldType)) ∈ lw_all := lw_g (lw_at lw_m8 54 rfl) rfl
theorem q1877 : (Jvm.Cond.methodLink "OldWeather" (573 : Nat) ({ cls := "OldWeather", name := "quarrelsOfRow", desc := "()I" } : Jvm.MethodName)) ∈ lw_all := lw_g (lw_at lw_m8 55 rfl) rfl
theorem q1879 : (Jvm.Cond.instanceMethod ({ cls := "OldWeather", name := "quarrelsOfRow", desc := "()I" } : Jvm.MethodName)) ∈ lw_all := lw_g (lw_at lw_m8 57 rfl) rfl
theorem q1880 : (Jvm.Cond.code ({ cls := "OldWeather", name := "quarrelsOfRow", desc := "()I" } : Jvm.MethodName) prog_1_method_76_code (4 : Nat) (Option.some Jvm.ClassFile.FieldType.int)) ∈ lw_all := lw_g (lw_at lw_m8 58 rfl) rfl
theorem q1885 : (Jvm.Cond.code ({ cls := "OldWeather", name := "chosen", desc := "(I)I" } : Jvm.MethodName) prog_1_method_79_code (2 : Nat) (Option.some Jvm.ClassFile.FieldType.int)) ∈ lw_all := lw_g (lw_at lw_m8 63 rfl) rfl
theorem q1889 : (Jvm.Cond.code ({ cls := "OldWeather", name := "beside", desc := "(IIII)I" } : Jvm.MethodName) prog_1_method_80_code (5 : Nat) (Option.some Jvm.ClassFile.FieldType.int)) ∈ lw_all := lw_g (lw_at lw_m8 67 rfl) rfl
theorem q1893 : (Jvm.Cond.code ({ cls := "OldWeather", name := "judge", desc := "(II)I" } : Jvm.MethodName) prog_1_method_81_code (5 : Nat) (Option.some Jvm.ClassFile.FieldType.int)) ∈ lw_all := lw_g (lw_at lw_m8 71 rfl) rfl
theorem q1897 : (Jvm.Cond.code ({ cls := "OldWeather", name := "winter", desc := "(IIII)I" } : Jvm.MethodName) prog_1_method_84_code (5 : Nat) (Option.some Jvm.ClassFile.FieldType.int)) ∈ lw_all := lw_g (lw_at lw_m8 75 rfl) rfl
theorem q1898 : (Jvm.Cond.methodLink "OldWeather" (603 : Nat) ({ cls := "OldWeather", name := "isYear", desc := "(I)Z" } : Jvm.MethodName)) ∈ lw_all := lw_g (lw_at lw_m8 76 rfl) rfl
theorem q1899 : (Jvm.Cond.static ({ cls := "OldWeather", name := "isYear", desc := "(I)Z" } : Jvm.MethodName)) ∈ lw_all := lw_g (lw_at lw_m8 77 rfl) rfl
theorem q1900 : (Jvm.Cond.code ({ cls := "OldWeather", name := "isYear", desc := "(I)Z" } : Jvm.MethodName) prog_1_method_83_code (1 : Nat) (Option.some Jvm.ClassFile.FieldType.boolean)) ∈ lw_all := lw_g (lw_at lw_m8 78 rfl) rfl
theorem q1902 : (Jvm.Cond.methodLink "OldWeather" (607 : Nat) ({ cls := "OldWeather", name := "winters", desc := "(III)V" } : Jvm.MethodName)) ∈ lw_all := lw_g (lw_at lw_m8 80 rfl) rfl
theorem q1904 : (Jvm.Cond.instanceMethod ({ cls := "OldWeather", name := "winters", desc := "(III)V" } : Jvm.MethodName)) ∈ lw_all := lw_g (lw_at lw_m8 82 rfl) rfl
theorem q1905 : (Jvm.Cond.code ({ cls := "OldWeather", name := "winters", desc := "(III)V" } : Jvm.MethodName) prog_1_method_82_code (7 : Nat) (Option.none : Option Jvm.ClassFile.FieldType)) ∈ lw_all := lw_g (lw_at lw_m8 83 rfl) rfl
theorem q1909 : (Jvm.Cond.code ({ cls := "OldWeather", name := "rank", desc := "(IIIIII)I" } : Jvm.MethodName) prog_1_method_85_code (15 : Nat) (Option.some Jvm.ClassFile.FieldType.int)) ∈ lw_all := lw_g (lw_at lw_m8 87 rfl) rfl
theorem q1913 : (Jvm.Cond.code ({ cls := "OldWeather", name := "often", desc := "(IIIII)I" } : Jvm.MethodName) prog_1_method_86_code (11 : Nat) (Option.some Jvm.ClassFile.FieldType.int)) ∈ lw_all := lw_g (lw_at lw_m8 91 rfl) rfl
theorem q1917 : (Jvm.Cond.code ({ cls := "OldWeather", name := "offer", desc := "(IIIII)I" } : Jvm.MethodName) prog_1_method_87_code (6 : Nat) (Option.some Jvm.ClassFile.FieldType.int)) ∈ lw_all := lw_g (lw_at lw_m8 95 rfl) rfl
theorem q1921 : (Jvm.Cond.code ({ cls := "OldWeather", name := "plan", desc := "(IIIIII)I" } : Jvm.MethodName) prog_1_method_90_code (14 : Nat) (Option.some Jvm.ClassFile.FieldType.int)) ∈ lw_all := lw_g (lw_at lw_m8 99 rfl) rfl
theorem q1922 : (Jvm.Cond.methodLink "OldWeather" (632 : Nat) ({ cls := "OldWeather", name := "widthsOf", desc := "(IIII)I" } : Jvm.MethodName)) ∈ lw_all := lw_g (lw_at lw_m8 100 rfl) rfl
theorem q1924 : (Jvm.Cond.instanceMethod ({ cls := "OldWeather", name := "widthsOf", desc := "(IIII)I" } : Jvm.MethodName)) ∈ lw_all := lw_g (lw_at lw_m8 102 rfl) rfl
theorem q1925 : (Jvm.Cond.code ({ cls := "OldWeather", name := "widthsOf", desc := "(IIII)I" } : Jvm.MethodName) prog_1_method_89_code (10 : Nat) (Option.some Jvm.ClassFile.FieldType.int)) ∈ lw_all := lw_g (lw_at lw_m8 103 rfl) rfl
theorem q1926 : (Jvm.Cond.methodLink "OldWeather" (635 : Nat) ({ cls := "OldWeather", name := "hoursOf", desc := "(I)I" } : Jvm.MethodName)) ∈ lw_all := lw_g (lw_at lw_m8 104 rfl) rfl
theorem q1928 : (Jvm.Cond.instanceMethod ({ cls := "OldWeather", name := "hoursOf", desc := "(I)I" } : Jvm.MethodName)) ∈ lw_all := lw_g (lw_at lw_m8 106 rfl) rfl
theorem q1929 : (Jvm.Cond.code ({ cls := "OldWeather", name := "hoursOf", desc := "(I)I" } : Jvm.MethodName) prog_1_method_88_code (4 : Nat) (Option.some Jvm.ClassFile.FieldType.int)) ∈ lw_all := lw_g (lw_at lw_m8 107 rfl) rfl
theorem q1930 : (Jvm.Cond.methodLink "OldWeather" (638 : Nat) ({ cls := "java/lang/Integer", name := "bitCount", desc := "(I)I" } : Jvm.MethodName)) ∈ lw_all := lw_g (lw_at lw_m8 108 rfl) rfl
theorem q1931 : (Jvm.Cond.static ({ cls := "java/lang/Integer", name := "bitCount", desc := "(I)I" } : Jvm.MethodName)) ∈ lw_all := lw_g (lw_at lw_m8 109 rfl) rfl
theorem q1932 : (Jvm.Cond.code ({ cls := "java/lang/Integer", name := "bitCount", desc := "(I)I" } : Jvm.MethodName) prog_41_method_49_code (1 : Nat) (Option.some Jvm.ClassFile.FieldType.int)) ∈ lw_all := lw_g (lw_at lw_m8 110 rfl) rfl
theorem q1939 : (Jvm.Cond.code ({ cls := "OldWeather", name := "seal", desc := "(II)I" } : Jvm.MethodName) prog_1_method_95_code (4 : Nat) (Option.some Jvm.ClassFile.FieldType.int)) ∈ lw_all := lw_g (lw_at lw_m8 117 rfl) rfl
theorem q1940 : (Jvm.Cond.methodLink "OldWeather" (655 : Nat) ({ cls := "OldWeather", name := "isMonth", desc := "(II)Z" } : Jvm.MethodName)) ∈ lw_all := lw_g (lw_at lw_m8 118 rfl) rfl
theorem q1941 : (Jvm.Cond.static ({ cls := "OldWeather", name := "isMonth", desc := "(II)Z" } : Jvm.MethodName)) ∈ lw_all := lw_g (lw_at lw_m8 119 rfl) rfl
theorem q1942 : (Jvm.Cond.code ({ cls := "OldWeather", name := "isMonth", desc := "(II)Z" } : Jvm.MethodName) prog_1_method_91_code (2 : Nat) (Option.some Jvm.ClassFile.FieldType.boolean)) ∈ lw_all := lw_g (lw_at lw_m8 120 rfl) rfl
theorem q1943 : (Jvm.Cond.methodLink "OldWeather" (658 : Nat) ({ cls := "OldWeather", name := "sums", desc := "(II)V" } : Jvm.MethodName)) ∈ lw_all := lw_g (lw_at lw_m8 121 rfl) rfl
theorem q1945 : (Jvm.Cond.instanceMethod ({ cls := "OldWeather", name := "sums", desc := "(II)V" } : Jvm.MethodName)) ∈ lw_all := lw_g (lw_at lw_m8 123 rfl) rfl
theorem q1946 : (Jvm.Cond.code ({ cls := "OldWeather", name := "sums", desc := "(II)V" } : Jvm.MethodName) prog_1_method_94_code (4 : Nat) (Option.none : Option Jvm.ClassFile.FieldType)) ∈ lw_all := lw_g (lw_at lw_m8 124 rfl) rfl
theorem q1947 : (Jvm.Cond.methodLink "OldWeather" (652 : Nat) ({ cls := "OldWeather", name := "isIn", desc := "(III)Z" } : Jvm.MethodName)) ∈ lw_all := lw_g (lw_at lw_m8 125 rfl) rfl
theorem q1949 : (Jvm.Cond.instanceMethod ({ cls := "OldWeather", name := "isIn", desc := "(III)Z" } : Jvm.MethodName)) ∈ lw_all := lw_g (lw_at lw_m8 127 rfl) rfl
theorem q1950 : (Jvm.Cond.code ({ cls := "OldWeather", name := "isIn", desc := "(III)Z" } : Jvm.MethodName) prog_1_method_93_code (4 : Nat) (Option.some Jvm.ClassFile.FieldType.boolean)) ∈ lw_all := lw_g (lw_at lw_m8 128 rfl) rfl
theorem q1951 : (Jvm.Cond.methodLink "OldWeather" (662 : Nat) ({ cls := "OldWeather", name := "monthAt", desc := "(II)I" } : Jvm.MethodName)) ∈ lw_all := lw_g (lw_at lw_m8 129 rfl) rfl
theorem q1952 : (Jvm.Cond.static ({ cls := "OldWeather", name := "monthAt", desc := "(II)I" } : Jvm.MethodName)) ∈ lw_all := lw_g (lw_at lw_m8 130 rfl) rfl
theorem q1953 : (Jvm.Cond.code ({ cls := "OldWeather", name := "monthAt", desc := "(II)I" } : Jvm.MethodName) prog_1_method_92_code (2 : Nat) (Option.some Jvm.ClassFile.FieldType.int)) ∈ lw_all := lw_g (lw_at lw_m8 131 rfl) rfl
theorem q1957 : (Jvm.Cond.code ({ cls := "OldWeather", name := "alter", desc := "(II)I" } : Jvm.MethodName) prog_1_method_96_code (3 : Nat) (Option.some Jvm.ClassFile.FieldType.int)) ∈ lw_all := lw_g (lw_at lw_m8 135 rfl) rfl
theorem q1961 : (Jvm.Cond.code ({ cls := "OldWeather", name := "found", desc := "(II)I" } : Jvm.MethodName) prog_1_method_97_code (10 : Nat) (Option.some Jvm.ClassFile.FieldType.int)) ∈ lw_all := lw_g (lw_at lw_m8 139 rfl) rfl
theorem q1965 : (Jvm.Cond.code ({ cls := "OldWeather", name := "count", desc := "(I)I" } : Jvm.MethodName) prog_1_method_98_code (2 : Nat) (Option.some Jvm.ClassFile.FieldType.int)) ∈ lw_all := lw_g (lw_at lw_m8 143 rfl) rfl
theorem q1969 : (Jvm.Cond.code ({ cls := "OldWeather", name := "status", desc := "()I" } : Jvm.MethodName) prog_1_method_99_code (1 : Nat) (Option.some Jvm.ClassFile.FieldType.int)) ∈ lw_all := lw_g (lw_at lw_m8 147 rfl) rfl
theorem q1974 : (Jvm.Cond.code ({ cls := "OldWeatherModel", name := "<init>", desc := "()V" } : Jvm.MethodName) prog_31_method_1_code (1 : Nat) (Option.none : Option Jvm.ClassFile.FieldType)) ∈ lw_all := lw_g (lw_at lw_m8 152 rfl) rfl
theorem q2231 : (Jvm.Cond.code ({ cls := "OldWeatherModel", name := "image", desc := "(I)I" } : Jvm.MethodName) prog_31_method_8_code (3 : Nat) (Option.some Jvm.ClassFile.FieldType.int)) ∈ lw_all := lw_g (lw_at lw_m9 169 rfl) rfl
theorem q2233 : (Jvm.Cond.methodLink "OldWeatherModel" (122 : Nat) ({ cls := "OldWeatherModel", name := "in", desc := "(JJJ)Z" } : Jvm.MethodName)) ∈ lw_all := lw_g (lw_at lw_m9 171 rfl) rfl
theorem q2234 : (Jvm.Cond.static ({ cls := "OldWeatherModel", name := "in", desc := "(JJJ)Z" } : Jvm.MethodName)) ∈ lw_all := lw_g (lw_at lw_m9 172 rfl) rfl
theorem q2235 : (Jvm.Cond.code ({ cls := "OldWeatherModel", name := "in", desc := "(JJJ)Z" } : Jvm.MethodName) prog_31_method_3_code (6 : Nat) (Option.some Jvm.ClassFile.FieldType.boolean)) ∈ lw_all := lw_g (lw_at lw_m9 173 rfl) rfl
theorem q2236 : (Jvm.Cond.methodLink "OldWeatherModel" (130 : Nat) ({ cls := "OldWeatherModel", name := "told", desc := "(I)I" } : Jvm.MethodName)) ∈ lw_all := lw_g (lw_at lw_m9 174 rfl) rfl
theorem q2238 : (Jvm.Cond.instanceMethod ({ cls := "OldWeatherModel", name := "told", desc := "(I)I" } : Jvm.MethodName)) ∈ lw_all := lw_g (lw_at lw_m9 176 rfl) rfl
theorem q2239 : (Jvm.Cond.code ({ cls := "OldWeatherModel", name := "told", desc := "(I)I" } : Jvm.MethodName) prog_31_method_4_code (2 : Nat) (Option.some Jvm.ClassFile.FieldType.int)) ∈ lw_all := lw_g (lw_at lw_m9 177 rfl) rfl
theorem q2243 : (Jvm.Cond.code ({ cls := "OldWeatherModel", name := "back", desc := "(I)I" } : Jvm.MethodName) prog_31_method_9_code (3 : Nat) (Option.some Jvm.ClassFile.FieldType.int)) ∈ lw_all := lw_g (lw_at lw_m9 181 rfl) rfl
theorem q2247 : (Jvm.Cond.code ({ cls := "OldWeatherModel", name := "day", desc := "(IIII)I" } : Jvm.MethodName) prog_31_method_14_code (6 : Nat) (Option.some Jvm.ClassFile.FieldType.int)) ∈ lw_all := lw_g (lw_at lw_m9 185 rfl) rfl
theorem q2248 : (Jvm.Cond.methodLink "OldWeatherModel" (148 : Nat) ({ cls := "OldWeatherModel", name := "isDate", desc := "(IIII)Z" } : Jvm.MethodName)) ∈ lw_all := lw_g (lw_at lw_m9 186 rfl) rfl
theorem q2249 : (Jvm.Cond.static ({ cls := "OldWeatherModel", name := "isDate", desc := "(IIII)Z" } : Jvm.MethodName)) ∈ lw_all := lw_g (lw_at lw_m9 187 rfl) rfl
theorem q2250 : (Jvm.Cond.code ({ cls := "OldWeatherModel", name := "isDate", desc := "(IIII)Z" } : Jvm.MethodName) prog_31_method_12_code (4 : Nat) (Option.some Jvm.ClassFile.FieldType.boolean)) ∈ lw_all := lw_g (lw_at lw_m9 188 rfl) rfl
theorem q2254 : (Jvm.Cond.methodLink "OldWeatherModel" (144 : Nat) ({ cls := "OldWeatherModel", name := "monthLong", desc := "(III)I" } : Jvm.MethodName)) ∈ lw_all := lw_g (lw_at lw_m9 192 rfl) rfl
theorem q2255 : (Jvm.Cond.static ({ cls := "OldWeatherModel", name := "monthLong", desc := "(III)I" } : Jvm.MethodName)) ∈ lw_all := lw_g (lw_at lw_m9 193 rfl) rfl
theorem q2256 : (Jvm.Cond.code ({ cls := "OldWeatherModel", name := "monthLong", desc := "(III)I" } : Jvm.MethodName) prog_31_method_11_code (3 : Nat) (Option.some Jvm.ClassFile.FieldType.int)) ∈ lw_all := lw_g (lw_at lw_m9 194 rfl) rfl
theorem q2257 : (Jvm.Cond.methodLink "OldWeatherModel" (134 : Nat) ({ cls := "OldWeatherModel", name := "isLong", desc := "(II)Z" } : Jvm.MethodName)) ∈ lw_all := lw_g (lw_at lw_m9 195 rfl) rfl
theorem q2258 : (Jvm.Cond.static ({ cls := "OldWeatherModel", name := "isLong", desc := "(II)Z" } : Jvm.MethodName)) ∈ lw_all := lw_g (lw_at lw_m9 196 rfl) rfl
theorem q2259 : (Jvm.Cond.code ({ cls := "OldWeatherModel", name := "isLong", desc := "(II)Z" } : Jvm.MethodName) prog_31_method_10_code (2 : Nat) (Option.some Jvm.ClassFile.FieldType.boolean)) ∈ lw_all := lw_g (lw_at lw_m9 197 rfl) rfl
theorem q2260 : (Jvm.Cond.methodLink "OldWeatherModel" (152 : Nat) ({ cls := "OldWeatherModel", name := "dayOf", desc := "(IIII)I" } : Jvm.MethodName)) ∈ lw_all := lw_g (lw_at lw_m9 198 rfl) rfl
theorem q2261 : (Jvm.Cond.static ({ cls := "OldWeatherModel", name := "dayOf", desc := "(IIII)I" } : Jvm.MethodName)) ∈ lw_all := lw_g (lw_at lw_m9 199 rfl) rfl
theorem q2262 : (Jvm.Cond.code ({ cls := "OldWeatherModel", name := "dayOf", desc := "(IIII)I" } : Jvm.MethodName) prog_31_method_13_code (6 : Nat) (Option.some Jvm.ClassFile.FieldType.int)) ∈ lw_all := lw_g (lw_at lw_m9 200 rfl) rfl
theorem q2263 : (Jvm.Cond.methodLink "OldWeatherModel" (156 : Nat) ({ cls := "OldWeatherModel", name := "isDay", desc := "(I)Z" } : Jvm.MethodName)) ∈ lw_all := lw_g (lw_at lw_m9 201 rfl) rfl
theorem q2264 : (Jvm.Cond.static ({ cls := "OldWeatherModel", name := "isDay", desc := "(I)Z" } : Jvm.MethodName)) ∈ lw_all := lw_g (lw_at lw_m9 202 rfl) rfl
theorem q2265 : (Jvm.Cond.code ({ cls := "OldWeatherModel", name := "isDay", desc := "(I)Z" } : Jvm.MethodName) prog_31_method_6_code (1 : Nat) (Option.some Jvm.ClassFile.FieldType.boolean)) ∈ lw_all := lw_g (lw_at lw_m9 203 rfl) rfl
theorem q2270 : (Jvm.Cond.code ({ cls := "OldWeatherModel", name := "date", desc := "(II)I" } : Jvm.MethodName) prog_31_method_16_code (3 : Nat) (Option.some Jvm.ClassFile.FieldType.int)) ∈ lw_all := lw_g (lw_at lw_m9 208 rfl) rfl
theorem q2271 : (Jvm.Cond.methodLink "OldWeatherModel" (169 : Nat) ({ cls := "OldWeatherModel", name := "findDate", desc := "(II)V" } : Jvm.MethodName)) ∈ lw_all := lw_g (lw_at lw_m9 209 rfl) rfl
theorem q2273 : (Jvm.Cond.instanceMethod ({ cls := "OldWeatherModel", name := "findDate", desc := "(II)V" } : Jvm.MethodName)) ∈ lw_all := lw_g (lw_at lw_m9 211 rfl) rfl
theorem q2274 : (Jvm.Cond.code ({ cls := "OldWeatherModel", name := "findDate", desc := "(II)V" } : Jvm.MethodName) prog_31_method_15_code (4 : Nat) (Option.none : Option Jvm.ClassFile.FieldType)) ∈ lw_all := lw_g (lw_at lw_m9 212 rfl) rfl
theorem q2278 : (Jvm.Cond.code ({ cls := "OldWeatherModel", name := "place", desc := "(I)I" } : Jvm.MethodName) prog_31_method_19_code (4 : Nat) (Option.some Jvm.ClassFile.FieldType.int)) ∈ lw_all := lw_g (lw_at lw_m9 216 rfl) rfl
theorem q2280 : (Jvm.Cond.methodLink "OldWeatherModel" (175 : Nat) ({ cls := "OldWeatherModel", name := "placeAt", desc := "(I)I" } : Jvm.MethodName)) ∈ lw_all := lw_g (lw_at lw_m9 218 rfl) rfl
theorem q2281 : (Jvm.Cond.static ({ cls := "OldWeatherModel", name := "placeAt", desc := "(I)I" } : Jvm.MethodName)) ∈ lw_all := lw_g (lw_at lw_m9 219 rfl) rfl
theorem q2282 : (Jvm.Cond.code ({ cls := "OldWeatherModel", name := "placeAt", desc := "(I)I" } : Jvm.MethodName) prog_31_method_18_code (1 : Nat) (Option.some Jvm.ClassFile.FieldType.int)) ∈ lw_all := lw_g (lw_at lw_m9 220 rfl) rfl
theorem q2286 : (Jvm.Cond.code ({ cls := "OldWeatherModel", name := "season", desc := "(IIII)I" } : Jvm.MethodName) prog_31_method_20_code (5 : Nat) (Option.some Jvm.ClassFile.FieldType.int)) ∈ lw_all := lw_g (lw_at lw_m9 224 rfl) rfl
theorem q2290 : (Jvm.Cond.methodLink "OldWeatherModel" (184 : Nat) ({ cls := "OldWeatherModel", name := "isPlace", desc := "(I)Z" } : Jvm.MethodName)) ∈ lw_all := lw_g (lw_at lw_m9 228 rfl) rfl
theorem q2292 : (Jvm.Cond.instanceMethod ({ cls := "OldWeatherModel", name := "isPlace", desc := "(I)Z" } : Jvm.MethodName)) ∈ lw_all := lw_g (lw_at lw_m9 230 rfl) rfl
theorem q2293 : (Jvm.Cond.code ({ cls := "OldWeatherModel", name := "isPlace", desc := "(I)Z" } : Jvm.MethodName) prog_31_method_17_code (2 : Nat) (Option.some Jvm.ClassFile.FieldType.boolean)) ∈ lw_all := lw_g (lw_at lw_m9 231 rfl) rfl
theorem q2297 : (Jvm.Cond.code ({ cls := "OldWeatherModel", name := "like", desc := "(III)I" } : Jvm.MethodName) prog_31_method_21_code (4 : Nat) (Option.some Jvm.ClassFile.FieldType.int)) ∈ lw_all := lw_g (lw_at lw_m9 235 rfl) rfl
theorem q2302 : (Jvm.Cond.code ({ cls := "OldWeatherModel", name := "source", desc := "(II)I" } : Jvm.MethodName) prog_31_method_26_code (3 : Nat) (Option.some Jvm.ClassFile.FieldType.int)) ∈ lw_all := lw_g (lw_at lw_m10 0 rfl) rfl
theorem q2304 : (Jvm.Cond.methodLink "OldWeatherModel" (191 : Nat) ({ cls := "OldWeatherModel", name := "addFour", desc := "(IIIII)V" } : Jvm.MethodName)) ∈ lw_all := lw_g (lw_at lw_m10 2 rfl) rfl
theorem q2306 : (Jvm.Cond.instanceMethod ({ cls := "OldWeatherModel", name := "addFour", desc := "(IIIII)V" } : Jvm.MethodName)) ∈ lw_all := lw_g (lw_at lw_m10 4 rfl) rfl
theorem q2307 : (Jvm.Cond.code ({ cls := "OldWeatherModel", name := "addFour", desc := "(IIIII)V" } : Jvm.MethodName) prog_31_method_7_code (6 : Nat) (Option.none : Option Jvm.ClassFile.FieldType)) ∈ lw_all := lw_g (lw_at lw_m10 5 rfl) rfl
theorem q2311 : (Jvm.Cond.code ({ cls := "OldWeatherModel", name := "turn", desc := "(II)I" } : Jvm.MethodName) prog_31_method_27_code (3 : Nat) (Option.some Jvm.ClassFile.FieldType.int)) ∈ lw_all := lw_g (lw_at lw_m10 9 rfl) rfl
theorem q2313 : (Jvm.Cond.methodLink "OldWeatherModel" (197 : Nat) ({ cls := "OldWeatherModel", name := "isSource", desc := "(I)Z" } : Jvm.MethodName)) ∈ lw_all := lw_g (lw_at lw_m10 11 rfl) rfl
theorem q2315 : (Jvm.Cond.instanceMethod ({ cls := "OldWeatherModel", name := "isSource", desc := "(I)Z" } : Jvm.MethodName)) ∈ lw_all := lw_g (lw_at lw_m10 13 rfl) rfl
theorem q2316 : (Jvm.Cond.code ({ cls := "OldWeatherModel", name := "isSource", desc := "(I)Z" } : Jvm.MethodName) prog_31_method_23_code (2 : Nat) (Option.some Jvm.ClassFile.FieldType.boolean)) ∈ lw_all := lw_g (lw_at lw_m10 14 rfl) rfl
theorem q2320 : (Jvm.Cond.code ({ cls := "OldWeatherModel", name := "stopped", desc := "(I)I" } : Jvm.MethodName) prog_31_method_28_code (2 : Nat) (Option.some Jvm.ClassFile.FieldType.int)) ∈ lw_all := lw_g (lw_at lw_m10 18 rfl) rfl
theorem q2324 : (Jvm.Cond.code ({ cls := "OldWeatherModel", name := "word", desc := "(IIIIII)I" } : Jvm.MethodName) prog_31_method_35_code (7 : Nat) (Option.some Jvm.ClassFile.FieldType.int)) ∈ lw_all := lw_g (lw_at lw_m10 22 rfl) rfl
theorem q2326 : (Jvm.Cond.methodLink "OldWeatherModel" (222 : Nat) ({ cls := "OldWeatherModel", name := "tell", desc := "(IIIIIIZII)I" } : Jvm.MethodName)) ∈ lw_all := lw_g (lw_at lw_m10 24 rfl) rfl
theorem q2328 : (Jvm.Cond.instanceMethod ({ cls := "OldWeatherModel", name := "tell", desc := "(IIIIIIZII)I" } : Jvm.MethodName)) ∈ lw_all := lw_g (lw_at lw_m10 26 rfl) rfl
theorem q2329 : (Jvm.Cond.code ({ cls := "OldWeatherModel", name := "tell", desc := "(IIIIIIZII)I" } : Jvm.MethodName) prog_31_method_34_code (11 : Nat) (Option.some Jvm.ClassFile.FieldType.int)) ∈ lw_all := lw_g (lw_at lw_m10 27 rfl) rfl
theorem q2330 : (Jvm.Cond.methodLink "OldWeatherModel" (210 : Nat) ({ cls := "OldWeatherModel", name := "isKnown", desc := "(I)Z" } : Jvm.MethodName)) ∈ lw_all := lw_g (lw_at lw_m10 28 rfl) rfl
theorem q2331 : (Jvm.Cond.static ({ cls := "OldWeatherModel", name := "isKnown", desc := "(I)Z" } : Jvm.MethodName)) ∈ lw_all := lw_g (lw_at lw_m10 29 rfl) rfl
theorem q2332 : (Jvm.Cond.code ({ cls := "OldWeatherModel", name := "isKnown", desc := "(I)Z" } : Jvm.MethodName) prog_31_method_5_code (1 : Nat) (Option.some Jvm.ClassFile.FieldType.boolean)) ∈ lw_all := lw_g (lw_at lw_m10 30 rfl) rfl
theorem q2334 : (Jvm.Cond.methodLink "OldWeatherModel" (213 : Nat) ({ cls := "OldWeatherModel", name := "isReading", desc := "(I)Z" } : Jvm.MethodName)) ∈ lw_all := lw_g (lw_at lw_m10 32 rfl) rfl
theorem q2336 : (Jvm.Cond.instanceMethod ({ cls := "OldWeatherModel", name := "isReading", desc := "(I)Z" } : Jvm.MethodName)) ∈ lw_all := lw_g (lw_at lw_m10 34 rfl) rfl
theorem q2337 : (Jvm.Cond.code ({ cls := "OldWeatherModel", name := "isReading", desc := "(I)Z" } : Jvm.MethodName) prog_31_method_29_code (2 : Nat) (Option.some Jvm.ClassFile.FieldType.boolean)) ∈ lw_all := lw_g (lw_at lw_m10 35 rfl) rfl
theorem q2338 : (Jvm.Cond.methodLink "OldWeatherModel" (216 : Nat) ({ cls := "OldWeatherModel", name := "keep", desc := "(IIIIIIII)I" } : Jvm.MethodName)) ∈ lw_all := lw_g (lw_at lw_m10 36 rfl) rfl
theorem q2340 : (Jvm.Cond.instanceMethod ({ cls := "OldWeatherModel", name := "keep", desc := "(IIIIIIII)I" } : Jvm.MethodName)) ∈ lw_all := lw_g (lw_at lw_m10 38 rfl) rfl
theorem q2341 : (Jvm.Cond.code ({ cls := "OldWeatherModel", name := "keep", desc := "(IIIIIIII)I" } : Jvm.MethodName) prog_31_method_33_code (10 : Nat) (Option.some Jvm.ClassFile.FieldType.int)) ∈ lw_all := lw_g (lw_at lw_m10 39 rfl) rfl
theorem q2345 : (Jvm.Cond.code ({ cls := "OldWeatherModel", name := "gauge", desc := "(IIIIII)I" } : Jvm.MethodName) prog_31_method_36_code (7 : Nat) (Option.some Jvm.ClassFile.FieldType.int)) ∈ lw_all := lw_g (lw_at lw_m10 43 rfl) rfl
theorem q2349 : (Jvm.Cond.code ({ cls := "OldWeatherModel", name := "log", desc := "(IIIIII)I" } : Jvm.MethodName) prog_31_method_37_code (7 : Nat) (Option.some Jvm.ClassFile.FieldType.int)) ∈ lw_all := lw_g (lw_at lw_m10 47 rfl) rfl
theorem q2353 : (Jvm.Cond.code ({ cls := "OldWeatherModel", name := "proxy", desc := "(IIIIIII)I" } : Jvm.MethodName) prog_31_method_38_code (8 : Nat) (Option.some Jvm.ClassFile.FieldType.int)) ∈ lw_all := lw_g (lw_at lw_m10 51 rfl) rfl
theorem q2359 : (Jvm.Cond.code ({ cls := "OldWeatherModel", name := "copy", desc := "(IIIIII)I" } : Jvm.MethodName) prog_31_method_39_code (7 : Nat) (Option.some Jvm.ClassFile.FieldType.int)) ∈ lw_all := lw_g (lw_at lw_m10 57 rfl) rfl
theorem q2363 : (Jvm.Cond.code ({ cls := "OldWeatherModel", name := "of", desc := "(II)I" } : Jvm.MethodName) prog_31_method_44_code (3 : Nat) (Option.some Jvm.ClassFile.FieldType.int)) ∈ lw_all := lw_g (lw_at lw_m10 61 rfl) rfl
theorem q2366 : (Jvm.Cond.methodLink "OldWeatherModel" (239 : Nat) ({ cls := "OldWeatherModel", name := "findDays", desc := "(I)V" } : Jvm.MethodName)) ∈ lw_all := lw_g (lw_at lw_m10 64 rfl) rfl
theorem q2368 : (Jvm.Cond.instanceMethod ({ cls := "OldWeatherModel", name := "findDays", desc := "(I)V" } : Jvm.MethodName)) ∈ lw_all := lw_g (lw_at lw_m10 66 rfl) rfl
theorem q2369 : (Jvm.Cond.code ({ cls := "OldWeatherModel", name := "findDays", desc := "(I)V" } : Jvm.MethodName) prog_31_method_40_code (6 : Nat) (Option.none : Option Jvm.ClassFile.FieldType)) ∈ lw_all := lw_g (lw_at lw_m10 67 rfl) rfl
theorem q2370 : (Jvm.Cond.methodLink "OldWeatherModel" (204 : Nat) ({ cls := "OldWeatherModel", name := "sourceOf", desc := "(I)I" } : Jvm.MethodName)) ∈ lw_all := lw_g (lw_at lw_m10 68 rfl) rfl
theorem q2372 : (Jvm.Cond.instanceMethod ({ cls := "OldWeatherModel", name := "sourceOf", desc := "(I)I" } : Jvm.MethodName)) ∈ lw_all := lw_g (lw_at lw_m10 70 rfl) rfl
theorem q2373 : (Jvm.Cond.code ({ cls := "OldWeatherModel", name := "sourceOf", desc := "(I)I" } : Jvm.MethodName) prog_31_method_31_code (2 : Nat) (Option.some Jvm.ClassFile.FieldType.int)) ∈ lw_all := lw_g (lw_at lw_m10 71 rfl) rfl
theorem q2374 : (Jvm.Cond.methodLink "OldWeatherModel" (200 : Nat) ({ cls := "OldWeatherModel", name := "get", desc := "(II)I" } : Jvm.MethodName)) ∈ lw_all := lw_g (lw_at lw_m10 72 rfl) rfl
theorem q2376 : (Jvm.Cond.instanceMethod ({ cls := "OldWeatherModel", name := "get", desc := "(II)I" } : Jvm.MethodName)) ∈ lw_all := lw_g (lw_at lw_m10 74 rfl) rfl
theorem q2377 : (Jvm.Cond.code ({ cls := "OldWeatherModel", name := "get", desc := "(II)I" } : Jvm.MethodName) prog_31_method_30_code (3 : Nat) (Option.some Jvm.ClassFile.FieldType.int)) ∈ lw_all := lw_g (lw_at lw_m10 75 rfl) rfl
theorem q2381 : (Jvm.Cond.code ({ cls := "OldWeatherModel", name := "as", desc := "(II)I" } : Jvm.MethodName) prog_31_method_45_code (4 : Nat) (Option.some Jvm.ClassFile.FieldType.int)) ∈ lw_all := lw_g (lw_at lw_m10 79 rfl) rfl
theorem q2386 : (Jvm.Cond.code ({ cls := "OldWeatherModel", name := "strike", desc := "(II)I" } : Jvm.MethodName) prog_31_method_46_code (3 : Nat) (Option.some Jvm.ClassFile.FieldType.int)) ∈ lw_all := lw_g (lw_at lw_m10 84 rfl) rfl
theorem q2390 : (Jvm.Cond.code ({ cls := "OldWeatherModel", name := "row", desc := "(IIIIII)I" } : Jvm.MethodName) prog_31_method_49_code (12 : Nat) (Option.some Jvm.ClassFile.FieldType.int)) ∈ lw_all := lw_g (lw_at lw_m10 88 rfl) rfl
theorem q2391 : (Jvm.Cond.methodLink "OldWeatherModel" (255 : Nat) ({ cls := "OldWeatherModel", name := "bitsAt", desc := "(I)I" } : Jvm.MethodName)) ∈ lw_all := lw_g (lw_at lw_m10 89 rfl) rfl
theorem q2393 : (Jvm.Cond.instanceMethod ({ cls := "OldWeatherModel", name := "bitsAt", desc := "(I)I" } : Jvm.MethodName)) ∈ lw_all := lw_g (lw_at lw_m10 91 rfl) rfl
theorem q2394 : (Jvm.Cond.code ({ cls := "OldWeatherModel", name := "bitsAt", desc := "(I)I" } : Jvm.MethodName) prog_31_method_48_code (2 : Nat) (Option.some Jvm.ClassFile.FieldType.int)) ∈ lw_all := lw_g (lw_at lw_m10 92 rfl) rfl
theorem q2395 : (Jvm.Cond.methodLink "OldWeatherModel" (258 : Nat) ({ cls := "OldWeatherModel", name := "degreesOf", desc := "(I)I" } : Jvm.MethodName)) ∈ lw_all := lw_g (lw_at lw_m10 93 rfl) rfl
theorem q2396 : (Jvm.Cond.static ({ cls := "OldWeatherModel", name := "degreesOf", desc := "(I)I" } : Jvm.MethodName)) ∈ lw_all := lw_g (lw_at lw_m10 94 rfl) rfl
theorem q2397 : (Jvm.Cond.code ({ cls := "OldWeatherModel", name := "degreesOf", desc := "(I)I" } : Jvm.MethodName) prog_31_method_47_code (7 : Nat) (Option.some Jvm.ClassFile.FieldType.int)) ∈ lw_all := lw_g (lw_at lw_m10 95 rfl) rfl
theorem q2401 : (Jvm.Cond.methodLink "OldWeatherModel" (261 : Nat) ({ cls := "OldWeatherModel", name := "dayOn", desc := "(I)V" } : Jvm.MethodName)) ∈ lw_all := lw_g (lw_at lw_m10 99 rfl) rfl
theorem q2403 : (Jvm.Cond.instanceMethod ({ cls := "OldWeatherModel", name := "dayOn", desc := "(I)V" } : Jvm.MethodName)) ∈ lw_all := lw_g (lw_at lw_m10 101 rfl) rfl
theorem q2404 : (Jvm.Cond.code ({ cls := "OldWeatherModel", name := "dayOn", desc := "(I)V" } : Jvm.MethodName) prog_31_method_50_code (2 : Nat) (Option.none : Option Jvm.ClassFile.FieldType)) ∈ lw_all := lw_g (lw_at lw_m10 102 rfl) rfl
theorem q2408 : (Jvm.Cond.code ({ cls := "OldWeatherModel", name := "feed", desc := "(IIIII)I" } : Jvm.MethodName) prog_31_method_52_code (6 : Nat) (Option.some Jvm.ClassFile.FieldType.int)) ∈ lw_all := lw_g (lw_at lw_m10 106 rfl) rfl
theorem q2409 : (Jvm.Cond.methodLink "OldWeatherModel" (264 : Nat) ({ cls := "OldWeatherModel", name := "four", desc := "(I)V" } : Jvm.MethodName)) ∈ lw_all := lw_g (lw_at lw_m10 107 rfl) rfl
theorem q2411 : (Jvm.Cond.instanceMethod ({ cls := "OldWeatherModel", name := "four", desc := "(I)V" } : Jvm.MethodName)) ∈ lw_all := lw_g (lw_at lw_m10 109 rfl) rfl
theorem q2412 : (Jvm.Cond.code ({ cls := "OldWeatherModel", name := "four", desc := "(I)V" } : Jvm.MethodName) prog_31_method_51_code (3 : Nat) (Option.none : Option Jvm.ClassFile.FieldType)) ∈ lw_all := lw_g (lw_at lw_m10 110 rfl) rfl
theorem q2416 : (Jvm.Cond.code ({ cls := "OldWeatherModel", name := "end", desc := "(I)I" } : Jvm.MethodName) prog_31_method_53_code (2 : Nat) (Option.some Jvm.ClassFile.FieldType.int)) ∈ lw_all := lw_g (lw_at lw_m10 114 rfl) rfl
theorem q2420 : (Jvm.Cond.code ({ cls := "OldWeatherModel", name := "fault", desc := "()I" } : Jvm.MethodName) prog_31_method_62_code (1 : Nat) (Option.some Jvm.ClassFile.FieldType.int)) ∈ lw_all := lw_g (lw_at lw_m10 118 rfl) rfl
theorem q2424 : (Jvm.Cond.code ({ cls := "OldWeatherModel", name := "rules", desc := "(I)I" } : Jvm.MethodName) prog_31_method_81_code (4 : Nat) (Option.some Jvm.ClassFile.FieldType.int)) ∈ lw_all := lw_g (lw_at lw_m10 122 rfl) rfl
theorem q2425 : (Jvm.Cond.methodLink "OldWeatherModel" (447 : Nat) ({ cls := "OldWeatherModel", name := "begin", desc := "()V" } : Jvm.MethodName)) ∈ lw_all := lw_g (lw_at lw_m10 123 rfl) rfl
theorem q2427 : (Jvm.Cond.instanceMethod ({ cls := "OldWeatherModel", name := "begin", desc := "()V" } : Jvm.MethodName)) ∈ lw_all := lw_g (lw_at lw_m10 125 rfl) rfl
theorem q2428 : (Jvm.Cond.code ({ cls := "OldWeatherModel", name := "begin", desc := "()V" } : Jvm.MethodName) prog_31_method_56_code (1 : Nat) (Option.none : Option Jvm.ClassFile.FieldType)) ∈ lw_all := lw_g (lw_at lw_m10 126 rfl) rfl
theorem q2429 : (Jvm.Cond.methodLink "OldWeatherModel" (274 : Nat) ({ cls := "OldWeatherModel", name := "next", desc := "()V" } : Jvm.MethodName)) ∈ lw_all := lw_g (lw_at lw_m10 127 rfl) rfl
theorem q2431 : (Jvm.Cond.instanceMethod ({ cls := "OldWeatherModel", name := "next", desc := "()V" } : Jvm.MethodName)) ∈ lw_all := lw_g (lw_at lw_m10 129 rfl) rfl
theorem q2432 : (Jvm.Cond.code ({ cls := "OldWeatherModel", name := "next", desc := "()V" } : Jvm.MethodName) prog_31_method_57_code (1 : Nat) (Option.none : Option Jvm.ClassFile.FieldType)) ∈ lw_all := lw_g (lw_at lw_m10 130 rfl) rfl
theorem q2433 : (Jvm.Cond.methodLink "OldWeatherModel" (284 : Nat) ({ cls := "OldWeatherModel", name := "isSmall", desc := "(I)Z" } : Jvm.MethodName)) ∈ lw_all := lw_g (lw_at lw_m10 131 rfl) rfl
theorem q2434 : (Jvm.Cond.static ({ cls := "OldWeatherModel", name := "isSmall", desc := "(I)Z" } : Jvm.MethodName)) ∈ lw_all := lw_g (lw_at lw_m10 132 rfl) rfl
theorem q2435 : (Jvm.Cond.code ({ cls := "OldWeatherModel", name := "isSmall", desc := "(I)Z" } : Jvm.MethodName) prog_31_method_54_code (1 : Nat) (Option.some Jvm.ClassFile.FieldType.boolean)) ∈ lw_all := lw_g (lw_at lw_m10 133 rfl) rfl
theorem q2436 : (Jvm.Cond.methodLink "OldWeatherModel" (287 : Nat) ({ cls := "OldWeatherModel", name := "isDigit", desc := "(I)Z" } : Jvm.MethodName)) ∈ lw_all := lw_g (lw_at lw_m10 134 rfl) rfl
theorem q2437 : (Jvm.Cond.static ({ cls := "OldWeatherModel", name := "isDigit", desc := "(I)Z" } : Jvm.MethodName)) ∈ lw_all := lw_g (lw_at lw_m10 135 rfl) rfl
theorem q2438 : (Jvm.Cond.code ({ cls := "OldWeatherModel", name := "isDigit", desc := "(I)Z" } : Jvm.MethodName) prog_31_method_55_code (1 : Nat) (Option.some Jvm.ClassFile.FieldType.boolean)) ∈ lw_all := lw_g (lw_at lw_m10 136 rfl) rfl
theorem q2444 : (Jvm.Cond.methodLink "OldWeatherModel" (450 : Nat) ({ cls := "OldWeatherModel", name := "readClause", desc := "()V" } : Jvm.MethodName)) ∈ lw_all := lw_g (lw_at lw_m10 142 rfl) rfl
theorem q2446 : (Jvm.Cond.instanceMethod ({ cls := "OldWeatherModel", name := "readClause", desc := "()V" } : Jvm.MethodName)) ∈ lw_all := lw_g (lw_at lw_m10 144 rfl) rfl
theorem q2447 : (Jvm.Cond.code ({ cls := "OldWeatherModel", name := "readClause", desc := "()V" } : Jvm.MethodName) prog_31_method_80_code (5 : Nat) (Option.none : Option Jvm.ClassFile.FieldType)) ∈ lw_all := lw_g (lw_at lw_m10 145 rfl) rfl
theorem q2448 : (Jvm.Cond.methodLink "OldWeatherModel" (418 : Nat) ({ cls := "OldWeatherModel", name := "headAt", desc := "()I" } : Jvm.MethodName)) ∈ lw_all := lw_g (lw_at lw_m10 146 rfl) rfl
theorem q2450 : (Jvm.Cond.instanceMethod ({ cls := "OldWeatherModel", name := "headAt", desc := "()I" } : Jvm.MethodName)) ∈ lw_all := lw_g (lw_at lw_m10 148 rfl) rfl
theorem q2451 : (Jvm.Cond.code ({ cls := "OldWeatherModel", name := "headAt", desc := "()I" } : Jvm.MethodName) prog_31_method_76_code (1 : Nat) (Option.some Jvm.ClassFile.FieldType.int)) ∈ lw_all := lw_g (lw_at lw_m10 149 rfl) rfl
theorem q2453 : (Jvm.Cond.methodLink "OldWeatherModel" (330 : Nat) ({ cls := "OldWeatherModel", name := "isWord", desc := "(J)Z" } : Jvm.MethodName)) ∈ lw_all := lw_g (lw_at lw_m10 151 rfl) rfl
theorem q2455 : (Jvm.Cond.instanceMethod ({ cls := "OldWeatherModel", name := "isWord", desc := "(J)Z" } : Jvm.MethodName)) ∈ lw_all := lw_g (lw_at lw_m10 153 rfl) rfl
theorem q2456 : (Jvm.Cond.code ({ cls := "OldWeatherModel", name := "isWord", desc := "(J)Z" } : Jvm.MethodName) prog_31_method_58_code (3 : Nat) (Option.some Jvm.ClassFile.FieldType.boolean)) ∈ lw_all := lw_g (lw_at lw_m10 154 rfl) rfl
theorem q2465 : (Jvm.Cond.methodLink "OldWeatherModel" (303 : Nat) ({ cls := "OldWeatherModel", name := "must", desc := "(Z)V" } : Jvm.MethodName)) ∈ lw_all := lw_g (lw_at lw_m10 163 rfl) rfl
theorem q2467 : (Jvm.Cond.instanceMethod ({ cls := "OldWeatherModel", name := "must", desc := "(Z)V" } : Jvm.MethodName)) ∈ lw_all := lw_g (lw_at lw_m10 165 rfl) rfl
theorem q2468 : (Jvm.Cond.code ({ cls := "OldWeatherModel", name := "must", desc := "(Z)V" } : Jvm.MethodName) prog_31_method_60_code (2 : Nat) (Option.none : Option Jvm.ClassFile.FieldType)) ∈ lw_all := lw_g (lw_at lw_m10 166 rfl) rfl
theorem q2469 : (Jvm.Cond.methodLink "OldWeatherModel" (424 : Nat) ({ cls := "OldWeatherModel", name := "number", desc := "(JJ)I" } : Jvm.MethodName)) ∈ lw_all := lw_g (lw_at lw_m10 167 rfl) rfl
theorem q2471 : (Jvm.Cond.instanceMethod ({ cls := "OldWeatherModel", name := "number", desc := "(JJ)I" } : Jvm.MethodName)) ∈ lw_all := lw_g (lw_at lw_m10 169 rfl) rfl
theorem q2472 : (Jvm.Cond.code ({ cls := "OldWeatherModel", name := "number", desc := "(JJ)I" } : Jvm.MethodName) prog_31_method_61_code (6 : Nat) (Option.some Jvm.ClassFile.FieldType.int)) ∈ lw_all := lw_g (lw_at lw_m10 170 rfl) rfl
theorem q2476 : (Jvm.Cond.methodLink "OldWeatherModel" (432 : Nat) ({ cls := "OldWeatherModel", name := "kindAt", desc := "()I" } : Jvm.MethodName)) ∈ lw_all := lw_g (lw_at lw_m10 174 rfl) rfl
theorem q2478 : (Jvm.Cond.instanceMethod ({ cls := "OldWeatherModel", name := "kindAt", desc := "()I" } : Jvm.MethodName)) ∈ lw_all := lw_g (lw_at lw_m10 176 rfl) rfl
theorem q2479 : (Jvm.Cond.code ({ cls := "OldWeatherModel", name := "kindAt", desc := "()I" } : Jvm.MethodName) prog_31_method_77_code (1 : Nat) (Option.some Jvm.ClassFile.FieldType.int)) ∈ lw_all := lw_g (lw_at lw_m10 177 rfl) rfl
theorem q2482 : (Jvm.Cond.methodLink "OldWeatherModel" (435 : Nat) ({ cls := "OldWeatherModel", name := "choice", desc := "(I)I" } : Jvm.MethodName)) ∈ lw_all := lw_g (lw_at lw_m10 180 rfl) rfl
theorem q2484 : (Jvm.Cond.instanceMethod ({ cls := "OldWeatherModel", name := "choice", desc := "(I)I" } : Jvm.MethodName)) ∈ lw_all := lw_g (lw_at lw_m10 182 rfl) rfl
theorem q2485 : (Jvm.Cond.code ({ cls := "OldWeatherModel", name := "choice", desc := "(I)I" } : Jvm.MethodName) prog_31_method_78_code (2 : Nat) (Option.some Jvm.ClassFile.FieldType.int)) ∈ lw_all := lw_g (lw_at lw_m10 183 rfl) rfl
theorem q2486 : (Jvm.Cond.methodLink "OldWeatherModel" (437 : Nat) ({ cls := "OldWeatherModel", name := "readPieces", desc := "(IZZ)V" } : Jvm.MethodName)) ∈ lw_all := lw_g (lw_at lw_m10 184 rfl) rfl
theorem q2488 : (Jvm.Cond.instanceMethod ({ cls := "OldWeatherModel", name := "readPieces", desc := "(IZZ)V" } : Jvm.MethodName)) ∈ lw_all := lw_g (lw_at lw_m10 186 rfl) rfl
theorem q2489 : (Jvm.Cond.code ({ cls := "OldWeatherModel", name := "readPieces", desc := "(IZZ)V" } : Jvm.MethodName) prog_31_method_79_code (4 : Nat) (Option.none : Option Jvm.ClassFile.FieldType)) ∈ lw_all := lw_g (lw_at lw_m10 187 rfl) rfl
theorem q2490 : (Jvm.Cond.methodLink "OldWeatherModel" (415 : Nat) ({ cls := "OldWeatherModel", name := "readExpression", desc := "(Z)V" } : Jvm.MethodName)) ∈ lw_all := lw_g (lw_at lw_m10 188 rfl) rfl
theorem q2492 : (Jvm.Cond.instanceMethod ({ cls := "OldWeatherModel", name := "readExpression", desc := "(Z)V" } : Jvm.MethodName)) ∈ lw_all := lw_g (lw_at lw_m10 190 rfl) rfl
theorem q2493 : (Jvm.Cond.code ({ cls := "OldWeatherModel", name := "readExpression", desc := "(Z)V" } : Jvm.MethodName) prog_31_method_75_code (3 : Nat) (Option.none : Option Jvm.ClassFile.FieldType)) ∈ lw_all := lw_g (lw_at lw_m10 191 rfl) rfl
theorem q2494 : (Jvm.Cond.methodLink "OldWeatherModel" (383 : Nat) ({ cls := "OldWeatherModel", name := "readPlain", desc := "()I" } : Jvm.MethodName)) ∈ lw_all := lw_g (lw_at lw_m10 192 rfl) rfl
theorem q2496 : (Jvm.Cond.instanceMethod ({ cls := "OldWeatherModel", name := "readPlain", desc := "()I" } : Jvm.MethodName)) ∈ lw_all := lw_g (lw_at lw_m10 194 rfl) rfl
theorem q2497 : (Jvm.Cond.code ({ cls := "OldWeatherModel", name := "readPlain", desc := "()I" } : Jvm.MethodName) prog_31_method_72_code (1 : Nat) (Option.some Jvm.ClassFile.FieldType.int)) ∈ lw_all := lw_g (lw_at lw_m10 195 rfl) rfl
theorem q2499 : (Jvm.Cond.methodLink "OldWeatherModel" (346 : Nat) ({ cls := "OldWeatherModel", name := "push", desc := "(II)V" } : Jvm.MethodName)) ∈ lw_all := lw_g (lw_at lw_m10 197 rfl) rfl
theorem q2501 : (Jvm.Cond.instanceMethod ({ cls := "OldWeatherModel", name := "push", desc := "(II)V" } : Jvm.MethodName)) ∈ lw_all := lw_g (lw_at lw_m10 199 rfl) rfl
theorem q2502 : (Jvm.Cond.code ({ cls := "OldWeatherModel", name := "push", desc := "(II)V" } : Jvm.MethodName) prog_31_method_64_code (3 : Nat) (Option.none : Option Jvm.ClassFile.FieldType)) ∈ lw_all := lw_g (lw_at lw_m10 200 rfl) rfl
theorem q2503 : (Jvm.Cond.methodLink "OldWeatherModel" (349 : Nat) ({ cls := "OldWeatherModel", name := "isSign", desc := "(I)Z" } : Jvm.MethodName)) ∈ lw_all := lw_g (lw_at lw_m10 201 rfl) rfl
theorem q2505 : (Jvm.Cond.instanceMethod ({ cls := "OldWeatherModel", name := "isSign", desc := "(I)Z" } : Jvm.MethodName)) ∈ lw_all := lw_g (lw_at lw_m10 203 rfl) rfl
theorem q2506 : (Jvm.Cond.code ({ cls := "OldWeatherModel", name := "isSign", desc := "(I)Z" } : Jvm.MethodName) prog_31_method_59_code (2 : Nat) (Option.some Jvm.ClassFile.FieldType.boolean)) ∈ lw_all := lw_g (lw_at lw_m10 204 rfl) rfl
theorem q2507 : (Jvm.Cond.methodLink "OldWeatherModel" (352 : Nat) ({ cls := "OldWeatherModel", name := "open", desc := "(I)V" } : Jvm.MethodName)) ∈ lw_all := lw_g (lw_at lw_m10 205 rfl) rfl
theorem q2509 : (Jvm.Cond.instanceMethod ({ cls := "OldWeatherModel", name := "open", desc := "(I)V" } : Jvm.MethodName)) ∈ lw_all := lw_g (lw_at lw_m10 207 rfl) rfl
theorem q2510 : (Jvm.Cond.code ({ cls := "OldWeatherModel", name := "open", desc := "(I)V" } : Jvm.MethodName) prog_31_method_70_code (2 : Nat) (Option.none : Option Jvm.ClassFile.FieldType)) ∈ lw_all := lw_g (lw_at lw_m10 208 rfl) rfl
theorem q2511 : (Jvm.Cond.methodLink "OldWeatherModel" (369 : Nat) ({ cls := "OldWeatherModel", name := "readPart", desc := "()I" } : Jvm.MethodName)) ∈ lw_all := lw_g (lw_at lw_m10 209 rfl) rfl
theorem q2513 : (Jvm.Cond.instanceMethod ({ cls := "OldWeatherModel", name := "readPart", desc := "()I" } : Jvm.MethodName)) ∈ lw_all := lw_g (lw_at lw_m10 211 rfl) rfl
theorem q2514 : (Jvm.Cond.code ({ cls := "OldWeatherModel", name := "readPart", desc := "()I" } : Jvm.MethodName) prog_31_method_71_code (4 : Nat) (Option.some Jvm.ClassFile.FieldType.int)) ∈ lw_all := lw_g (lw_at lw_m10 212 rfl) rfl
theorem q2515 : (Jvm.Cond.methodLink "OldWeatherModel" (355 : Nat) ({ cls := "OldWeatherModel", name := "partAt", desc := "()I" } : Jvm.MethodName)) ∈ lw_all := lw_g (lw_at lw_m10 213 rfl) rfl
theorem q2517 : (Jvm.Cond.instanceMethod ({ cls := "OldWeatherModel", name := "partAt", desc := "()I" } : Jvm.MethodName)) ∈ lw_all := lw_g (lw_at lw_m10 215 rfl) rfl
theorem q2518 : (Jvm.Cond.code ({ cls := "OldWeatherModel", name := "partAt", desc := "()I" } : Jvm.MethodName) prog_31_method_69_code (1 : Nat) (Option.some Jvm.ClassFile.FieldType.int)) ∈ lw_all := lw_g (lw_at lw_m10 216 rfl) rfl
theorem q2527 : (Jvm.Cond.methodLink "OldWeatherModel" (319 : Nat) ({ cls := "OldWeatherModel", name := "emit", desc := "(II)V" } : Jvm.MethodName)) ∈ lw_all := lw_g (lw_at lw_m10 225 rfl) rfl
theorem q2529 : (Jvm.Cond.instanceMethod ({ cls := "OldWeatherModel", name := "emit", desc := "(II)V" } : Jvm.MethodName)) ∈ lw_all := lw_g (lw_at lw_m10 227 rfl) rfl
theorem q2530 : (Jvm.Cond.code ({ cls := "OldWeatherModel", name := "emit", desc := "(II)V" } : Jvm.MethodName) prog_31_method_63_code (3 : Nat) (Option.none : Option Jvm.ClassFile.FieldType)) ∈ lw_all := lw_g (lw_at lw_m10 228 rfl) rfl
theorem q2531 : (Jvm.Cond.methodLink "OldWeatherModel" (364 : Nat) ({ cls := "OldWeatherModel", name := "settle", desc := "(I)V" } : Jvm.MethodName)) ∈ lw_all := lw_g (lw_at lw_m10 229 rfl) rfl
theorem q2533 : (Jvm.Cond.instanceMethod ({ cls := "OldWeatherModel", name := "settle", desc := "(I)V" } : Jvm.MethodName)) ∈ lw_all := lw_g (lw_at lw_m10 231 rfl) rfl
theorem q2534 : (Jvm.Cond.code ({ cls := "OldWeatherModel", name := "settle", desc := "(I)V" } : Jvm.MethodName) prog_31_method_66_code (2 : Nat) (Option.none : Option Jvm.ClassFile.FieldType)) ∈ lw_all := lw_g (lw_at lw_m10 232 rfl) rfl
theorem q2535 : (Jvm.Cond.methodLink "OldWeatherModel" (313 : Nat) ({ cls := "OldWeatherModel", name := "binds", desc := "(I)I" } : Jvm.MethodName)) ∈ lw_all := lw_g (lw_at lw_m10 233 rfl) rfl
theorem q2536 : (Jvm.Cond.static ({ cls := "OldWeatherModel", name := "binds", desc := "(I)I" } : Jvm.MethodName)) ∈ lw_all := lw_g (lw_at lw_m10 234 rfl) rfl
theorem q2537 : (Jvm.Cond.code ({ cls := "OldWeatherModel", name := "binds", desc := "(I)I" } : Jvm.MethodName) prog_31_method_65_code (1 : Nat) (Option.some Jvm.ClassFile.FieldType.int)) ∈ lw_all := lw_g (lw_at lw_m10 235 rfl) rfl
theorem q2538 : (Jvm.Cond.methodLink "OldWeatherModel" (386 : Nat) ({ cls := "OldWeatherModel", name := "behindSum", desc := "(Z)I" } : Jvm.MethodName)) ∈ lw_all := lw_g (lw_at lw_m10 236 rfl) rfl
theorem q2540 : (Jvm.Cond.instanceMethod ({ cls := "OldWeatherModel", name := "behindSum", desc := "(Z)I" } : Jvm.MethodName)) ∈ lw_all := lw_g (lw_at lw_m10 238 rfl) rfl
theorem q2541 : (Jvm.Cond.code ({ cls := "OldWeatherModel", name := "behindSum", desc := "(Z)I" } : Jvm.MethodName) prog_31_method_73_code (4 : Nat) (Option.some Jvm.ClassFile.FieldType.int)) ∈ lw_all := lw_g (lw_at lw_m10 239 rfl) rfl
theorem q2542 : (Jvm.Cond.methodLink "OldWeatherModel" (372 : Nat) ({ cls := "OldWeatherModel", name := "inner", desc := "()I" } : Jvm.MethodName)) ∈ lw_all := lw_g (lw_at lw_m11 0 rfl) rfl
theorem q2544 : (Jvm.Cond.instanceMethod ({ cls := "OldWeatherModel", name := "inner", desc := "()I" } : Jvm.MethodName)) ∈ lw_all := lw_g (lw_at lw_m11 2 rfl) rfl
theorem q2545 : (Jvm.Cond.code ({ cls := "OldWeatherModel", name := "inner", desc := "()I" } : Jvm.MethodName) prog_31_method_67_code (3 : Nat) (Option.some Jvm.ClassFile.FieldType.int)) ∈ lw_all := lw_g (lw_at lw_m11 3 rfl) rfl
theorem q2546 : (Jvm.Cond.methodLink "OldWeatherModel" (375 : Nat) ({ cls := "OldWeatherModel", name := "isCompared", desc := "()Z" } : Jvm.MethodName)) ∈ lw_all := lw_g (lw_at lw_m11 4 rfl) rfl
theorem q2548 : (Jvm.Cond.instanceMethod ({ cls := "OldWeatherModel", name := "isCompared", desc := "()Z" } : Jvm.MethodName)) ∈ lw_all := lw_g (lw_at lw_m11 6 rfl) rfl
theorem q2549 : (Jvm.Cond.code ({ cls := "OldWeatherModel", name := "isCompared", desc := "()Z" } : Jvm.MethodName) prog_31_method_68_code (2 : Nat) (Option.some Jvm.ClassFile.FieldType.boolean)) ∈ lw_all := lw_g (lw_at lw_m11 7 rfl) rfl
theorem q2552 : (Jvm.Cond.methodLink "OldWeatherModel" (390 : Nat) ({ cls := "OldWeatherModel", name := "behindTest", desc := "()I" } : Jvm.MethodName)) ∈ lw_all := lw_g (lw_at lw_m11 10 rfl) rfl
theorem q2554 : (Jvm.Cond.instanceMethod ({ cls := "OldWeatherModel", name := "behindTest", desc := "()I" } : Jvm.MethodName)) ∈ lw_all := lw_g (lw_at lw_m11 12 rfl) rfl
theorem q2555 : (Jvm.Cond.code ({ cls := "OldWeatherModel", name := "behindTest", desc := "()I" } : Jvm.MethodName) prog_31_method_74_code (2 : Nat) (Option.some Jvm.ClassFile.FieldType.int)) ∈ lw_all := lw_g (lw_at lw_m11 13 rfl) rfl
theorem q2561 : (Jvm.Cond.methodLink "OldWeatherModel" (453 : Nat) ({ cls := "OldWeatherModel", name := "textAt", desc := "(I)I" } : Jvm.MethodName)) ∈ lw_all := lw_g (lw_at lw_m11 19 rfl) rfl
theorem q2562 : (Jvm.Cond.static ({ cls := "OldWeatherModel", name := "textAt", desc := "(I)I" } : Jvm.MethodName)) ∈ lw_all := lw_g (lw_at lw_m11 20 rfl) rfl
theorem q2563 : (Jvm.Cond.code ({ cls := "OldWeatherModel", name := "textAt", desc := "(I)I" } : Jvm.MethodName) prog_31_method_82_code (1 : Nat) (Option.some Jvm.ClassFile.FieldType.int)) ∈ lw_all := lw_g (lw_at lw_m11 21 rfl) rfl
theorem q2567 : (Jvm.Cond.code ({ cls := "OldWeatherModel", name := "force", desc := "(III)I" } : Jvm.MethodName) prog_31_method_85_code (4 : Nat) (Option.some Jvm.ClassFile.FieldType.int)) ∈ lw_all := lw_g (lw_at lw_m11 25 rfl) rfl
theorem q2568 : (Jvm.Cond.methodLink "OldWeatherModel" (468 : Nat) ({ cls := "OldWeatherModel", name := "knowBy", desc := "(I)V" } : Jvm.MethodName)) ∈ lw_all := lw_g (lw_at lw_m11 26 rfl) rfl
theorem q2570 : (Jvm.Cond.instanceMethod ({ cls := "OldWeatherModel", name := "knowBy", desc := "(I)V" } : Jvm.MethodName)) ∈ lw_all := lw_g (lw_at lw_m11 28 rfl) rfl
theorem q2571 : (Jvm.Cond.code ({ cls := "OldWeatherModel", name := "knowBy", desc := "(I)V" } : Jvm.MethodName) prog_31_method_84_code (5 : Nat) (Option.none : Option Jvm.ClassFile.FieldType)) ∈ lw_all := lw_g (lw_at lw_m11 29 rfl) rfl
theorem q2572 : (Jvm.Cond.methodLink "OldWeatherModel" (459 : Nat) ({ cls := "OldWeatherModel", name := "findAllDays", desc := "()V" } : Jvm.MethodName)) ∈ lw_all := lw_g (lw_at lw_m11 30 rfl) rfl
theorem q2574 : (Jvm.Cond.instanceMethod ({ cls := "OldWeatherModel", name := "findAllDays", desc := "()V" } : Jvm.MethodName)) ∈ lw_all := lw_g (lw_at lw_m11 32 rfl) rfl
theorem q2575 : (Jvm.Cond.code ({ cls := "OldWeatherModel", name := "findAllDays", desc := "()V" } : Jvm.MethodName) prog_31_method_41_code (2 : Nat) (Option.none : Option Jvm.ClassFile.FieldType)) ∈ lw_all := lw_g (lw_at lw_m11 33 rfl) rfl
theorem q2576 : (Jvm.Cond.methodLink "OldWeatherModel" (462 : Nat) ({ cls := "OldWeatherModel", name := "clauseAt", desc := "(II)I" } : Jvm.MethodName)) ∈ lw_all := lw_g (lw_at lw_m11 34 rfl) rfl
theorem q2577 : (Jvm.Cond.static ({ cls := "OldWeatherModel", name := "clauseAt", desc := "(II)I" } : Jvm.MethodName)) ∈ lw_all := lw_g (lw_at lw_m11 35 rfl) rfl
theorem q2578 : (Jvm.Cond.code ({ cls := "OldWeatherModel", name := "clauseAt", desc := "(II)I" } : Jvm.MethodName) prog_31_method_83_code (2 : Nat) (Option.some Jvm.ClassFile.FieldType.int)) ∈ lw_all := lw_g (lw_at lw_m11 36 rfl) rfl
theorem q2579 : (Jvm.Cond.methodLink "OldWeatherModel" (465 : Nat) ({ cls := "OldWeatherModel", name := "findOnes", desc := "()V" } : Jvm.MethodName)) ∈ lw_all := lw_g (lw_at lw_m11 37 rfl) rfl
theorem q2581 : (Jvm.Cond.instanceMethod ({ cls := "OldWeatherModel", name := "findOnes", desc := "()V" } : Jvm.MethodName)) ∈ lw_all := lw_g (lw_at lw_m11 39 rfl) rfl
theorem q2582 : (Jvm.Cond.code ({ cls := "OldWeatherModel", name := "findOnes", desc := "()V" } : Jvm.MethodName) prog_31_method_107_code (5 : Nat) (Option.none : Option Jvm.ClassFile.FieldType)) ∈ lw_all := lw_g (lw_at lw_m11 40 rfl) rfl
theorem q2583 : (Jvm.Cond.methodLink "OldWeatherModel" (576 : Nat) ({ cls := "OldWeatherModel", name := "lastOf", desc := "(II)I" } : Jvm.MethodName)) ∈ lw_all := lw_g (lw_at lw_m11 41 rfl) rfl
theorem q2585 : (Jvm.Cond.instanceMethod ({ cls := "OldWeatherModel", name := "lastOf", desc := "(II)I" } : Jvm.MethodName)) ∈ lw_all := lw_g (lw_at lw_m11 43 rfl) rfl
theorem q2586 : (Jvm.Cond.code ({ cls := "OldWeatherModel", name := "lastOf", desc := "(II)I" } : Jvm.MethodName) prog_31_method_91_code (6 : Nat) (Option.some Jvm.ClassFile.FieldType.int)) ∈ lw_all := lw_g (lw_at lw_m11 44 rfl) rfl
theorem q2587 : (Jvm.Cond.methodLink "OldWeatherModel" (579 : Nat) ({ cls := "OldWeatherModel", name := "shared", desc := "(II)I" } : Jvm.MethodName)) ∈ lw_all := lw_g (lw_at lw_m11 45 rfl) rfl
theorem q2589 : (Jvm.Cond.instanceMethod ({ cls := "OldWeatherModel", name := "shared", desc := "(II)I" } : Jvm.MethodName)) ∈ lw_all := lw_g (lw_at lw_m11 47 rfl) rfl
theorem q2590 : (Jvm.Cond.code ({ cls := "OldWeatherModel", name := "shared", desc := "(II)I" } : Jvm.MethodName) prog_31_method_106_code (7 : Nat) (Option.some Jvm.ClassFile.FieldType.int)) ∈ lw_all := lw_g (lw_at lw_m11 48 rfl) rfl
theorem q2594 : (Jvm.Cond.code ({ cls := "OldWeatherModel", name := "bound", desc := "(III)I" } : Jvm.MethodName) prog_31_method_97_code (5 : Nat) (Option.some Jvm.ClassFile.FieldType.int)) ∈ lw_all := lw_g (lw_at lw_m11 52 rfl) rfl
theorem q2595 : (Jvm.Cond.methodLink "OldWeatherModel" (549 : Nat) ({ cls := "OldWeatherModel", name := "dayFirst", desc := "(I)I" } : Jvm.MethodName)) ∈ lw_all := lw_g (lw_at lw_m11 53 rfl) rfl
theorem q2597 : (Jvm.Cond.instanceMethod ({ cls := "OldWeatherModel", name := "dayFirst", desc := "(I)I" } : Jvm.MethodName)) ∈ lw_all := lw_g (lw_at lw_m11 55 rfl) rfl
theorem q2598 : (Jvm.Cond.code ({ cls := "OldWeatherModel", name := "dayFirst", desc := "(I)I" } : Jvm.MethodName) prog_31_method_42_code (2 : Nat) (Option.some Jvm.ClassFile.FieldType.int)) ∈ lw_all := lw_g (lw_at lw_m11 56 rfl) rfl
theorem q2599 : (Jvm.Cond.methodLink "OldWeatherModel" (526 : Nat) ({ cls := "OldWeatherModel", name := "isTold", desc := "(I)Z" } : Jvm.MethodName)) ∈ lw_all := lw_g (lw_at lw_m11 57 rfl) rfl
theorem q2601 : (Jvm.Cond.instanceMethod ({ cls := "OldWeatherModel", name := "isTold", desc := "(I)Z" } : Jvm.MethodName)) ∈ lw_all := lw_g (lw_at lw_m11 59 rfl) rfl
theorem q2602 : (Jvm.Cond.code ({ cls := "OldWeatherModel", name := "isTold", desc := "(I)Z" } : Jvm.MethodName) prog_31_method_93_code (2 : Nat) (Option.some Jvm.ClassFile.FieldType.boolean)) ∈ lw_all := lw_g (lw_at lw_m11 60 rfl) rfl
theorem q2603 : (Jvm.Cond.methodLink "OldWeatherModel" (552 : Nat) ({ cls := "OldWeatherModel", name := "findBounds", desc := "(II)Z" } : Jvm.MethodName)) ∈ lw_all := lw_g (lw_at lw_m11 61 rfl) rfl
theorem q2605 : (Jvm.Cond.instanceMethod ({ cls := "OldWeatherModel", name := "findBounds", desc := "(II)Z" } : Jvm.MethodName)) ∈ lw_all := lw_g (lw_at lw_m11 63 rfl) rfl
theorem q2606 : (Jvm.Cond.code ({ cls := "OldWeatherModel", name := "findBounds", desc := "(II)Z" } : Jvm.MethodName) prog_31_method_96_code (11 : Nat) (Option.some Jvm.ClassFile.FieldType.boolean)) ∈ lw_all := lw_g (lw_at lw_m11 64 rfl) rfl
theorem q2607 : (Jvm.Cond.methodLink "OldWeatherModel" (529 : Nat) ({ cls := "OldWeatherModel", name := "putRight", desc := "(II)J" } : Jvm.MethodName)) ∈ lw_all := lw_g (lw_at lw_m11 65 rfl) rfl
theorem q2609 : (Jvm.Cond.instanceMethod ({ cls := "OldWeatherModel", name := "putRight", desc := "(II)J" } : Jvm.MethodName)) ∈ lw_all := lw_g (lw_at lw_m11 67 rfl) rfl
theorem q2610 : (Jvm.Cond.code ({ cls := "OldWeatherModel", name := "putRight", desc := "(II)J" } : Jvm.MethodName) prog_31_method_94_code (5 : Nat) (Option.some Jvm.ClassFile.FieldType.long)) ∈ lw_all := lw_g (lw_at lw_m11 68 rfl) rfl
theorem q2611 : (Jvm.Cond.methodLink "OldWeatherModel" (509 : Nat) ({ cls := "OldWeatherModel", name := "find", desc := "(IIIII)Z" } : Jvm.MethodName)) ∈ lw_all := lw_g (lw_at lw_m11 69 rfl) rfl
theorem q2613 : (Jvm.Cond.instanceMethod ({ cls := "OldWeatherModel", name := "find", desc := "(IIIII)Z" } : Jvm.MethodName)) ∈ lw_all := lw_g (lw_at lw_m11 71 rfl) rfl
theorem q2614 : (Jvm.Cond.code ({ cls := "OldWeatherModel", name := "find", desc := "(IIIII)Z" } : Jvm.MethodName) prog_31_method_89_code (13 : Nat) (Option.some Jvm.ClassFile.FieldType.boolean)) ∈ lw_all := lw_g (lw_at lw_m11 72 rfl) rfl
theorem q2615 : (Jvm.Cond.methodLink "OldWeatherModel" (491 : Nat) ({ cls := "OldWeatherModel", name := "setFor", desc := "(II)V" } : Jvm.MethodName)) ∈ lw_all := lw_g (lw_at lw_m11 73 rfl) rfl
theorem q2617 : (Jvm.Cond.instanceMethod ({ cls := "OldWeatherModel", name := "setFor", desc := "(II)V" } : Jvm.MethodName)) ∈ lw_all := lw_g (lw_at lw_m11 75 rfl) rfl
theorem q2618 : (Jvm.Cond.code ({ cls := "OldWeatherModel", name := "setFor", desc := "(II)V" } : Jvm.MethodName) prog_31_method_86_code (4 : Nat) (Option.none : Option Jvm.ClassFile.FieldType)) ∈ lw_all := lw_g (lw_at lw_m11 76 rfl) rfl
theorem q2619 : (Jvm.Cond.methodLink "OldWeatherModel" (207 : Nat) ({ cls := "OldWeatherModel", name := "placeOf", desc := "(I)I" } : Jvm.MethodName)) ∈ lw_all := lw_g (lw_at lw_m11 77 rfl) rfl
theorem q2621 : (Jvm.Cond.instanceMethod ({ cls := "OldWeatherModel", name := "placeOf", desc := "(I)I" } : Jvm.MethodName)) ∈ lw_all := lw_g (lw_at lw_m11 79 rfl) rfl
theorem q2622 : (Jvm.Cond.code ({ cls := "OldWeatherModel", name := "placeOf", desc := "(I)I" } : Jvm.MethodName) prog_31_method_25_code (2 : Nat) (Option.some Jvm.ClassFile.FieldType.int)) ∈ lw_all := lw_g (lw_at lw_m11 80 rfl) rfl
theorem q2623 : (Jvm.Cond.methodLink "OldWeatherModel" (471 : Nat) ({ cls := "OldWeatherModel", name := "handOf", desc := "(I)I" } : Jvm.MethodName)) ∈ lw_all := lw_g (lw_at lw_m11 81 rfl) rfl
theorem q2625 : (Jvm.Cond.instanceMethod ({ cls := "OldWeatherModel", name := "handOf", desc := "(I)I" } : Jvm.MethodName)) ∈ lw_all := lw_g (lw_at lw_m11 83 rfl) rfl
theorem q2626 : (Jvm.Cond.code ({ cls := "OldWeatherModel", name := "handOf", desc := "(I)I" } : Jvm.MethodName) prog_31_method_24_code (2 : Nat) (Option.some Jvm.ClassFile.FieldType.int)) ∈ lw_all := lw_g (lw_at lw_m11 84 rfl) rfl
theorem q2627 : (Jvm.Cond.methodLink "OldWeatherModel" (494 : Nat) ({ cls := "OldWeatherModel", name := "holds", desc := "(II)Z" } : Jvm.MethodName)) ∈ lw_all := lw_g (lw_at lw_m11 85 rfl) rfl
theorem q2629 : (Jvm.Cond.instanceMethod ({ cls := "OldWeatherModel", name := "holds", desc := "(II)Z" } : Jvm.MethodName)) ∈ lw_all := lw_g (lw_at lw_m11 87 rfl) rfl
theorem q2630 : (Jvm.Cond.code ({ cls := "OldWeatherModel", name := "holds", desc := "(II)Z" } : Jvm.MethodName) prog_31_method_90_code (3 : Nat) (Option.some Jvm.ClassFile.FieldType.boolean)) ∈ lw_all := lw_g (lw_at lw_m11 88 rfl) rfl
theorem q2631 : (Jvm.Cond.methodLink "OldWeatherModel" (503 : Nat) ({ cls := "OldWeatherModel", name := "run", desc := "(III)V" } : Jvm.MethodName)) ∈ lw_all := lw_g (lw_at lw_m11 89 rfl) rfl
theorem q2633 : (Jvm.Cond.instanceMethod ({ cls := "OldWeatherModel", name := "run", desc := "(III)V" } : Jvm.MethodName)) ∈ lw_all := lw_g (lw_at lw_m11 91 rfl) rfl
theorem q2634 : (Jvm.Cond.code ({ cls := "OldWeatherModel", name := "run", desc := "(III)V" } : Jvm.MethodName) prog_31_method_88_code (8 : Nat) (Option.none : Option Jvm.ClassFile.FieldType)) ∈ lw_all := lw_g (lw_at lw_m11 92 rfl) rfl
theorem q2637 : (Jvm.Cond.methodLink "OldWeatherModel" (481 : Nat) ({ cls := "OldWeatherModel", name := "reckon", desc := "(IJJ)J" } : Jvm.MethodName)) ∈ lw_all := lw_g (lw_at lw_m11 95 rfl) rfl
theorem q2639 : (Jvm.Cond.instanceMethod ({ cls := "OldWeatherModel", name := "reckon", desc := "(IJJ)J" } : Jvm.MethodName)) ∈ lw_all := lw_g (lw_at lw_m11 97 rfl) rfl
theorem q2640 : (Jvm.Cond.code ({ cls := "OldWeatherModel", name := "reckon", desc := "(IJJ)J" } : Jvm.MethodName) prog_31_method_87_code (6 : Nat) (Option.some Jvm.ClassFile.FieldType.long)) ∈ lw_all := lw_g (lw_at lw_m11 98 rfl) rfl
theorem q2641 : (Jvm.Cond.methodLink "OldWeatherModel" (536 : Nat) ({ cls := "OldWeatherModel", name := "keepSpan", desc := "(JJ)Z" } : Jvm.MethodName)) ∈ lw_all := lw_g (lw_at lw_m11 99 rfl) rfl
theorem q2643 : (Jvm.Cond.instanceMethod ({ cls := "OldWeatherModel", name := "keepSpan", desc := "(JJ)Z" } : Jvm.MethodName)) ∈ lw_all := lw_g (lw_at lw_m11 101 rfl) rfl
theorem q2644 : (Jvm.Cond.code ({ cls := "OldWeatherModel", name := "keepSpan", desc := "(JJ)Z" } : Jvm.MethodName) prog_31_method_95_code (5 : Nat) (Option.some Jvm.ClassFile.FieldType.boolean)) ∈ lw_all := lw_g (lw_at lw_m11 102 rfl) rfl
theorem q2645 : (Jvm.Cond.methodLink "OldWeatherModel" (513 : Nat) ({ cls := "OldWeatherModel", name := "within", desc := "(J)I" } : Jvm.MethodName)) ∈ lw_all := lw_g (lw_at lw_m11 103 rfl) rfl
theorem q2646 : (Jvm.Cond.static ({ cls := "OldWeatherModel", name := "within", desc := "(J)I" } : Jvm.MethodName)) ∈ lw_all := lw_g (lw_at lw_m11 104 rfl) rfl
theorem q2647 : (Jvm.Cond.code ({ cls := "OldWeatherModel", name := "within", desc := "(J)I" } : Jvm.MethodName) prog_31_method_92_code (2 : Nat) (Option.some Jvm.ClassFile.FieldType.int)) ∈ lw_all := lw_g (lw_at lw_m11 105 rfl) rfl
theorem q2649 : (Jvm.Cond.methodLink "OldWeatherModel" (540 : Nat) ({ cls := "OldWeatherModel", name := "findLearned", desc := "(II)Z" } : Jvm.MethodName)) ∈ lw_all := lw_g (lw_at lw_m11 107 rfl) rfl
theorem q2651 : (Jvm.Cond.instanceMethod ({ cls := "OldWeatherModel", name := "findLearned", desc := "(II)Z" } : Jvm.MethodName)) ∈ lw_all := lw_g (lw_at lw_m11 109 rfl) rfl
theorem q2652 : (Jvm.Cond.code ({ cls := "OldWeatherModel", name := "findLearned", desc := "(II)Z" } : Jvm.MethodName) prog_31_method_103_code (14 : Nat) (Option.some Jvm.ClassFile.FieldType.boolean)) ∈ lw_all := lw_g (lw_at lw_m11 110 rfl) rfl
theorem q2653 : (Jvm.Cond.methodLink "OldWeatherModel" (570 : Nat) ({ cls := "OldWeatherModel", name := "learn", desc := "(II)V" } : Jvm.MethodName)) ∈ lw_all := lw_g (lw_at lw_m11 111 rfl) rfl
theorem q2655 : (Jvm.Cond.instanceMethod ({ cls := "OldWeatherModel", name := "learn", desc := "(II)V" } : Jvm.MethodName)) ∈ lw_all := lw_g (lw_at lw_m11 113 rfl) rfl
theorem q2656 : (Jvm.Cond.code ({ cls := "OldWeatherModel", name := "learn", desc := "(II)V" } : Jvm.MethodName) prog_31_method_102_code (5 : Nat) (Option.none : Option Jvm.ClassFile.FieldType)) ∈ lw_all := lw_g (lw_at lw_m11 114 rfl) rfl
theorem q2657 : (Jvm.Cond.methodLink "OldWeatherModel" (567 : Nat) ({ cls := "OldWeatherModel", name := "findPairs", desc := "(II)V" } : Jvm.MethodName)) ∈ lw_all := lw_g (lw_at lw_m11 115 rfl) rfl
theorem q2659 : (Jvm.Cond.instanceMethod ({ cls := "OldWeatherModel", name := "findPairs", desc := "(II)V" } : Jvm.MethodName)) ∈ lw_all := lw_g (lw_at lw_m11 117 rfl) rfl
theorem q2660 : (Jvm.Cond.code ({ cls := "OldWeatherModel", name := "findPairs", desc := "(II)V" } : Jvm.MethodName) prog_31_method_101_code (6 : Nat) (Option.none : Option Jvm.ClassFile.FieldType)) ∈ lw_all := lw_g (lw_at lw_m11 118 rfl) rfl
theorem q2661 : (Jvm.Cond.methodLink "OldWeatherModel" (555 : Nat) ({ cls := "OldWeatherModel", name := "isSure", desc := "(I)Z" } : Jvm.MethodName)) ∈ lw_all := lw_g (lw_at lw_m11 119 rfl) rfl
theorem q2663 : (Jvm.Cond.instanceMethod ({ cls := "OldWeatherModel", name := "isSure", desc := "(I)Z" } : Jvm.MethodName)) ∈ lw_all := lw_g (lw_at lw_m11 121 rfl) rfl
theorem q2664 : (Jvm.Cond.code ({ cls := "OldWeatherModel", name := "isSure", desc := "(I)Z" } : Jvm.MethodName) prog_31_method_43_code (2 : Nat) (Option.some Jvm.ClassFile.FieldType.boolean)) ∈ lw_all := lw_g (lw_at lw_m11 122 rfl) rfl
theorem q2665 : (Jvm.Cond.methodLink "OldWeatherModel" (564 : Nat) ({ cls := "OldWeatherModel", name := "gaugeBy", desc := "(II)I" } : Jvm.MethodName)) ∈ lw_all := lw_g (lw_at lw_m11 123 rfl) rfl
theorem q2667 : (Jvm.Cond.instanceMethod ({ cls := "OldWeatherModel", name := "gaugeBy", desc := "(II)I" } : Jvm.MethodName)) ∈ lw_all := lw_g (lw_at lw_m11 125 rfl) rfl
theorem q2668 : (Jvm.Cond.code ({ cls := "OldWeatherModel", name := "gaugeBy", desc := "(II)I" } : Jvm.MethodName) prog_31_method_100_code (6 : Nat) (Option.some Jvm.ClassFile.FieldType.int)) ∈ lw_all := lw_g (lw_at lw_m11 126 rfl) rfl
theorem q2669 : (Jvm.Cond.methodLink "OldWeatherModel" (558 : Nat) ({ cls := "OldWeatherModel", name := "at", desc := "(I)I" } : Jvm.MethodName)) ∈ lw_all := lw_g (lw_at lw_m11 127 rfl) rfl
theorem q2671 : (Jvm.Cond.instanceMethod ({ cls := "OldWeatherModel", name := "at", desc := "(I)I" } : Jvm.MethodName)) ∈ lw_all := lw_g (lw_at lw_m11 129 rfl) rfl
theorem q2672 : (Jvm.Cond.code ({ cls := "OldWeatherModel", name := "at", desc := "(I)I" } : Jvm.MethodName) prog_31_method_32_code (2 : Nat) (Option.some Jvm.ClassFile.FieldType.int)) ∈ lw_all := lw_g (lw_at lw_m11 130 rfl) rfl
theorem q2673 : (Jvm.Cond.methodLink "OldWeatherModel" (573 : Nat) ({ cls := "OldWeatherModel", name := "ordered", desc := "(II)I" } : Jvm.MethodName)) ∈ lw_all := lw_g (lw_at lw_m11 131 rfl) rfl
theorem q2675 : (Jvm.Cond.instanceMethod ({ cls := "OldWeatherModel", name := "ordered", desc := "(II)I" } : Jvm.MethodName)) ∈ lw_all := lw_g (lw_at lw_m11 133 rfl) rfl
theorem q2676 : (Jvm.Cond.code ({ cls := "OldWeatherModel", name := "ordered", desc := "(II)I" } : Jvm.MethodName) prog_31_method_99_code (3 : Nat) (Option.some Jvm.ClassFile.FieldType.int)) ∈ lw_all := lw_g (lw_at lw_m11 134 rfl) rfl
theorem q2680 : (Jvm.Cond.code ({ cls := "OldWeatherModel", name := "scale", desc := "(III)I" } : Jvm.MethodName) prog_31_method_98_code (5 : Nat) (Option.some Jvm.ClassFile.FieldType.int)) ∈ lw_all := lw_g (lw_at lw_m11 138 rfl) rfl
theorem q2684 : (Jvm.Cond.code ({ cls := "OldWeatherModel", name := "learned", desc := "(IIII)I" } : Jvm.MethodName) prog_31_method_104_code (10 : Nat) (Option.some Jvm.ClassFile.FieldType.int)) ∈ lw_all := lw_g (lw_at lw_m11 142 rfl) rfl
theorem q2688 : (Jvm.Cond.code ({ cls := "OldWeatherModel", name := "slip", desc := "(III)I" } : Jvm.MethodName) prog_31_method_105_code (5 : Nat) (Option.some Jvm.ClassFile.FieldType.int)) ∈ lw_all := lw_g (lw_at lw_m11 146 rfl) rfl
theorem q2692 : (Jvm.Cond.code ({ cls := "OldWeatherModel", name := "same", desc := "(II)I" } : Jvm.MethodName) prog_31_method_108_code (3 : Nat) (Option.some Jvm.ClassFile.FieldType.int)) ∈ lw_all := lw_g (lw_at lw_m11 150 rfl) rfl
theorem q2696 : (Jvm.Cond.code ({ cls := "OldWeatherModel", name := "counts", desc := "(II)I" } : Jvm.MethodName) prog_31_method_110_code (3 : Nat) (Option.some Jvm.ClassFile.FieldType.int)) ∈ lw_all := lw_g (lw_at lw_m11 154 rfl) rfl
theorem q2697 : (Jvm.Cond.methodLink "OldWeatherModel" (582 : Nat) ({ cls := "OldWeatherModel", name := "doesCount", desc := "(I)Z" } : Jvm.MethodName)) ∈ lw_all := lw_g (lw_at lw_m11 155 rfl) rfl
theorem q2699 : (Jvm.Cond.instanceMethod ({ cls := "OldWeatherModel", name := "doesCount", desc := "(I)Z" } : Jvm.MethodName)) ∈ lw_all := lw_g (lw_at lw_m11 157 rfl) rfl
theorem q2700 : (Jvm.Cond.code ({ cls := "OldWeatherModel", name := "doesCount", desc := "(I)Z" } : Jvm.MethodName) prog_31_method_109_code (7 : Nat) (Option.some Jvm.ClassFile.FieldType.boolean)) ∈ lw_all := lw_g (lw_at lw_m11 158 rfl) rfl
theorem q2704 : (Jvm.Cond.code ({ cls := "OldWeatherModel", name := "joined", desc := "(IIII)I" } : Jvm.MethodName) prog_31_method_116_code (5 : Nat) (Option.some Jvm.ClassFile.FieldType.int)) ∈ lw_all := lw_g (lw_at lw_m11 162 rfl) rfl
theorem q2705 : (Jvm.Cond.methodLink "OldWeatherModel" (612 : Nat) ({ cls := "OldWeatherModel", name := "noShifts", desc := "()V" } : Jvm.MethodName)) ∈ lw_all := lw_g (lw_at lw_m11 163 rfl) rfl
theorem q2707 : (Jvm.Cond.instanceMethod ({ cls := "OldWeatherModel", name := "noShifts", desc := "()V" } : Jvm.MethodName)) ∈ lw_all := lw_g (lw_at lw_m11 165 rfl) rfl
theorem q2708 : (Jvm.Cond.code ({ cls := "OldWeatherModel", name := "noShifts", desc := "()V" } : Jvm.MethodName) prog_31_method_111_code (2 : Nat) (Option.none : Option Jvm.ClassFile.FieldType)) ∈ lw_all := lw_g (lw_at lw_m11 166 rfl) rfl
theorem q2709 : (Jvm.Cond.methodLink "OldWeatherModel" (615 : Nat) ({ cls := "OldWeatherModel", name := "join", desc := "(II)V" } : Jvm.MethodName)) ∈ lw_all := lw_g (lw_at lw_m11 167 rfl) rfl
theorem q2711 : (Jvm.Cond.instanceMethod ({ cls := "OldWeatherModel", name := "join", desc := "(II)V" } : Jvm.MethodName)) ∈ lw_all := lw_g (lw_at lw_m11 169 rfl) rfl
theorem q2712 : (Jvm.Cond.code ({ cls := "OldWeatherModel", name := "join", desc := "(II)V" } : Jvm.MethodName) prog_31_method_114_code (22 : Nat) (Option.none : Option Jvm.ClassFile.FieldType)) ∈ lw_all := lw_g (lw_at lw_m11 170 rfl) rfl
theorem q2713 : (Jvm.Cond.methodLink "OldWeatherModel" (594 : Nat) ({ cls := "OldWeatherModel", name := "likeOf", desc := "(II)I" } : Jvm.MethodName)) ∈ lw_all := lw_g (lw_at lw_m11 171 rfl) rfl
theorem q2715 : (Jvm.Cond.instanceMethod ({ cls := "OldWeatherModel", name := "likeOf", desc := "(II)I" } : Jvm.MethodName)) ∈ lw_all := lw_g (lw_at lw_m11 173 rfl) rfl
theorem q2716 : (Jvm.Cond.code ({ cls := "OldWeatherModel", name := "likeOf", desc := "(II)I" } : Jvm.MethodName) prog_31_method_22_code (3 : Nat) (Option.some Jvm.ClassFile.FieldType.int)) ∈ lw_all := lw_g (lw_at lw_m11 174 rfl) rfl
theorem q2717 : (Jvm.Cond.methodLink "OldWeatherModel" (597 : Nat) ({ cls := "OldWeatherModel", name := "weightOf", desc := "(II)J" } : Jvm.MethodName)) ∈ lw_all := lw_g (lw_at lw_m11 175 rfl) rfl
theorem q2719 : (Jvm.Cond.instanceMethod ({ cls := "OldWeatherModel", name := "weightOf", desc := "(II)J" } : Jvm.MethodName)) ∈ lw_all := lw_g (lw_at lw_m11 177 rfl) rfl
theorem q2720 : (Jvm.Cond.code ({ cls := "OldWeatherModel", name := "weightOf", desc := "(II)J" } : Jvm.MethodName) prog_31_method_112_code (4 : Nat) (Option.some Jvm.ClassFile.FieldType.long)) ∈ lw_all := lw_g (lw_at lw_m11 178 rfl) rfl
theorem q2721 : (Jvm.Cond.methodLink "OldWeatherModel" (609 : Nat) ({ cls := "OldWeatherModel", name := "floor", desc := "(JJ)I" } : Jvm.MethodName)) ∈ lw_all := lw_g (lw_at lw_m11 179 rfl) rfl
theorem q2722 : (Jvm.Cond.static ({ cls := "OldWeatherModel", name := "floor", desc := "(JJ)I" } : Jvm.MethodName)) ∈ lw_all := lw_g (lw_at lw_m11 180 rfl) rfl
theorem q2723 : (Jvm.Cond.code ({ cls := "OldWeatherModel", name := "floor", desc := "(JJ)I" } : Jvm.MethodName) prog_31_method_113_code (6 : Nat) (Option.some Jvm.ClassFile.FieldType.int)) ∈ lw_all := lw_g (lw_at lw_m11 181 rfl) rfl
theorem q2724 : (Jvm.Cond.methodLink "OldWeatherModel" (618 : Nat) ({ cls := "OldWeatherModel", name := "tellJoined", desc := "(I)I" } : Jvm.MethodName)) ∈ lw_all := lw_g (lw_at lw_m11 182 rfl) rfl
theorem q2726 : (Jvm.Cond.instanceMethod ({ cls := "OldWeatherModel", name := "tellJoined", desc := "(I)I" } : Jvm.MethodName)) ∈ lw_all := lw_g (lw_at lw_m11 184 rfl) rfl
theorem q2727 : (Jvm.Cond.code ({ cls := "OldWeatherModel", name := "tellJoined", desc := "(I)I" } : Jvm.MethodName) prog_31_method_115_code (2 : Nat) (Option.some Jvm.ClassFile.FieldType.int)) ∈ lw_all := lw_g (lw_at lw_m11 185 rfl) rfl
theorem q2731 : (Jvm.Cond.code ({ cls := "OldWeatherModel", name := "led", desc := "(IIII)I" } : Jvm.MethodName) prog_31_method_117_code (5 : Nat) (Option.some Jvm.ClassFile.FieldType.int)) ∈ lw_all := lw_g (lw_at lw_m11 189 rfl) rfl
theorem q2735 : (Jvm.Cond.code ({ cls := "OldWeatherModel", name := "left", desc := "(IIIII)I" } : Jvm.MethodName) prog_31_method_118_code (11 : Nat) (Option.some Jvm.ClassFile.FieldType.int)) ∈ lw_all := lw_g (lw_at lw_m11 193 rfl) rfl
theorem q2739 : (Jvm.Cond.code ({ cls := "OldWeatherModel", name := "wish", desc := "(I)I" } : Jvm.MethodName) prog_31_method_119_code (3 : Nat) (Option.some Jvm.ClassFile.FieldType.int)) ∈ lw_all := lw_g (lw_at lw_m11 197 rfl) rfl
theorem q2743 : (Jvm.Cond.code ({ cls := "OldWeatherModel", name := "clear", desc := "()I" } : Jvm.MethodName) prog_31_method_120_code (2 : Nat) (Option.some Jvm.ClassFile.FieldType.int)) ∈ lw_all := lw_g (lw_at lw_m11 201 rfl) rfl
theorem q2747 : (Jvm.Cond.code ({ cls := "OldWeatherModel", name := "best", desc := "(I)I" } : Jvm.MethodName) prog_31_method_128_code (9 : Nat) (Option.some Jvm.ClassFile.FieldType.int)) ∈ lw_all := lw_g (lw_at lw_m11 205 rfl) rfl
theorem q2748 : (Jvm.Cond.methodLink "OldWeatherModel" (636 : Nat) ({ cls := "OldWeatherModel", name := "countClashes", desc := "()V" } : Jvm.MethodName)) ∈ lw_all := lw_g (lw_at lw_m11 206 rfl) rfl
theorem q2750 : (Jvm.Cond.instanceMethod ({ cls := "OldWeatherModel", name := "countClashes", desc := "()V" } : Jvm.MethodName)) ∈ lw_all := lw_g (lw_at lw_m11 208 rfl) rfl
theorem q2751 : (Jvm.Cond.code ({ cls := "OldWeatherModel", name := "countClashes", desc := "()V" } : Jvm.MethodName) prog_31_method_125_code (7 : Nat) (Option.none : Option Jvm.ClassFile.FieldType)) ∈ lw_all := lw_g (lw_at lw_m11 209 rfl) rfl
theorem q2752 : (Jvm.Cond.methodLink "OldWeatherModel" (630 : Nat) ({ cls := "OldWeatherModel", name := "findShifts", desc := "()V" } : Jvm.MethodName)) ∈ lw_all := lw_g (lw_at lw_m11 210 rfl) rfl
theorem q2754 : (Jvm.Cond.instanceMethod ({ cls := "OldWeatherModel", name := "findShifts", desc := "()V" } : Jvm.MethodName)) ∈ lw_all := lw_g (lw_at lw_m11 212 rfl) rfl
theorem q2755 : (Jvm.Cond.code ({ cls := "OldWeatherModel", name := "findShifts", desc := "()V" } : Jvm.MethodName) prog_31_method_123_code (6 : Nat) (Option.none : Option Jvm.ClassFile.FieldType)) ∈ lw_all := lw_g (lw_at lw_m11 213 rfl) rfl
theorem q2756 : (Jvm.Cond.methodLink "OldWeatherModel" (624 : Nat) ({ cls := "OldWeatherModel", name := "shiftBy", desc := "(I)I" } : Jvm.MethodName)) ∈ lw_all := lw_g (lw_at lw_m11 214 rfl) rfl
theorem q2757 : (Jvm.Cond.static ({ cls := "OldWeatherModel", name := "shiftBy", desc := "(I)I" } : Jvm.MethodName)) ∈ lw_all := lw_g (lw_at lw_m11 215 rfl) rfl
theorem q2758 : (Jvm.Cond.code ({ cls := "OldWeatherModel", name := "shiftBy", desc := "(I)I" } : Jvm.MethodName) prog_31_method_121_code (1 : Nat) (Option.some Jvm.ClassFile.FieldType.int)) ∈ lw_all := lw_g (lw_at lw_m11 216 rfl) rfl
theorem q2759 : (Jvm.Cond.methodLink "OldWeatherModel" (627 : Nat) ({ cls := "OldWeatherModel", name := "wishOf", desc := "(I)I" } : Jvm.MethodName)) ∈ lw_all := lw_g (lw_at lw_m11 217 rfl) rfl
theorem q2761 : (Jvm.Cond.instanceMethod ({ cls := "OldWeatherModel", name := "wishOf", desc := "(I)I" } : Jvm.MethodName)) ∈ lw_all := lw_g (lw_at lw_m11 219 rfl) rfl
theorem q2762 : (Jvm.Cond.code ({ cls := "OldWeatherModel", name := "wishOf", desc := "(I)I" } : Jvm.MethodName) prog_31_method_122_code (4 : Nat) (Option.some Jvm.ClassFile.FieldType.int)) ∈ lw_all := lw_g (lw_at lw_m11 220 rfl) rfl
theorem q2763 : (Jvm.Cond.methodLink "OldWeatherModel" (633 : Nat) ({ cls := "OldWeatherModel", name := "clash", desc := "(IIII)Z" } : Jvm.MethodName)) ∈ lw_all := lw_g (lw_at lw_m11 221 rfl) rfl
theorem q2765 : (Jvm.Cond.instanceMethod ({ cls := "OldWeatherModel", name := "clash", desc := "(IIII)Z" } : Jvm.MethodName)) ∈ lw_all := lw_g (lw_at lw_m11 223 rfl) rfl
theorem q2766 : (Jvm.Cond.code ({ cls := "OldWeatherModel", name := "clash", desc := "(IIII)Z" } : Jvm.MethodName) prog_31_method_124_code (8 : Nat) (Option.some Jvm.ClassFile.FieldType.boolean)) ∈ lw_all := lw_g (lw_at lw_m11 224 rfl) rfl
theorem q2767 : (Jvm.Cond.methodLink "OldWeatherModel" (642 : Nat) ({ cls := "OldWeatherModel", name := "rowsOf", desc := "()I" } : Jvm.MethodName)) ∈ lw_all := lw_g (lw_at lw_m11 225 rfl) rfl
theorem q2769 : (Jvm.Cond.instanceMethod ({ cls := "OldWeatherModel", name := "rowsOf", desc := "()I" } : Jvm.MethodName)) ∈ lw_all := lw_g (lw_at lw_m11 227 rfl) rfl
theorem q2770 : (Jvm.Cond.code ({ cls := "OldWeatherModel", name := "rowsOf", desc := "()I" } : Jvm.MethodName) prog_31_method_127_code (3 : Nat) (Option.some Jvm.ClassFile.FieldType.int)) ∈ lw_all := lw_g (lw_at lw_m11 228 rfl) rfl
theorem q2771 : (Jvm.Cond.methodLink "OldWeatherModel" (645 : Nat) ({ cls := "OldWeatherModel", name := "quarrels", desc := "()I" } : Jvm.MethodName)) ∈ lw_all := lw_g (lw_at lw_m11 229 rfl) rfl
theorem q2773 : (Jvm.Cond.instanceMethod ({ cls := "OldWeatherModel", name := "quarrels", desc := "()I" } : Jvm.MethodName)) ∈ lw_all := lw_g (lw_at lw_m11 231 rfl) rfl
theorem q2774 : (Jvm.Cond.code ({ cls := "OldWeatherModel", name := "quarrels", desc := "()I" } : Jvm.MethodName) prog_31_method_126_code (4 : Nat) (Option.some Jvm.ClassFile.FieldType.int)) ∈ lw_all := lw_g (lw_at lw_m11 232 rfl) rfl
theorem q2778 : (Jvm.Cond.code ({ cls := "OldWeatherModel", name := "chosen", desc := "(I)I" } : Jvm.MethodName) prog_31_method_129_code (2 : Nat) (Option.some Jvm.ClassFile.FieldType.int)) ∈ lw_all := lw_g (lw_at lw_m11 236 rfl) rfl
theorem q2782 : (Jvm.Cond.code ({ cls := "OldWeatherModel", name := "judge", desc := "(II)I" } : Jvm.MethodName) prog_31_method_130_code (5 : Nat) (Option.some Jvm.ClassFile.FieldType.int)) ∈ lw_all := lw_g (lw_at lw_m12 0 rfl) rfl
theorem q2786 : (Jvm.Cond.code ({ cls := "OldWeatherModel", name := "beside", desc := "(IIII)I" } : Jvm.MethodName) prog_31_method_131_code (6 : Nat) (Option.some Jvm.ClassFile.FieldType.int)) ∈ lw_all := lw_g (lw_at lw_m12 4 rfl) rfl
theorem q2790 : (Jvm.Cond.code ({ cls := "OldWeatherModel", name := "winter", desc := "(IIII)I" } : Jvm.MethodName) prog_31_method_135_code (5 : Nat) (Option.some Jvm.ClassFile.FieldType.int)) ∈ lw_all := lw_g (lw_at lw_m12 8 rfl) rfl
theorem q2791 : (Jvm.Cond.methodLink "OldWeatherModel" (670 : Nat) ({ cls := "OldWeatherModel", name := "isWinter", desc := "(I)Z" } : Jvm.MethodName)) ∈ lw_all := lw_g (lw_at lw_m12 9 rfl) rfl
theorem q2792 : (Jvm.Cond.static ({ cls := "OldWeatherModel", name := "isWinter", desc := "(I)Z" } : Jvm.MethodName)) ∈ lw_all := lw_g (lw_at lw_m12 10 rfl) rfl
theorem q2793 : (Jvm.Cond.code ({ cls := "OldWeatherModel", name := "isWinter", desc := "(I)Z" } : Jvm.MethodName) prog_31_method_134_code (1 : Nat) (Option.some Jvm.ClassFile.FieldType.boolean)) ∈ lw_all := lw_g (lw_at lw_m12 11 rfl) rfl
theorem q2797 : (Jvm.Cond.methodLink "OldWeatherModel" (674 : Nat) ({ cls := "OldWeatherModel", name := "findWinter", desc := "(II)V" } : Jvm.MethodName)) ∈ lw_all := lw_g (lw_at lw_m12 15 rfl) rfl
theorem q2799 : (Jvm.Cond.instanceMethod ({ cls := "OldWeatherModel", name := "findWinter", desc := "(II)V" } : Jvm.MethodName)) ∈ lw_all := lw_g (lw_at lw_m12 17 rfl) rfl
theorem q2800 : (Jvm.Cond.code ({ cls := "OldWeatherModel", name := "findWinter", desc := "(II)V" } : Jvm.MethodName) prog_31_method_133_code (3 : Nat) (Option.none : Option Jvm.ClassFile.FieldType)) ∈ lw_all := lw_g (lw_at lw_m12 18 rfl) rfl
theorem q2801 : (Jvm.Cond.methodLink "OldWeatherModel" (663 : Nat) ({ cls := "OldWeatherModel", name := "addDays", desc := "(III)V" } : Jvm.MethodName)) ∈ lw_all := lw_g (lw_at lw_m12 19 rfl) rfl
theorem q2803 : (Jvm.Cond.instanceMethod ({ cls := "OldWeatherModel", name := "addDays", desc := "(III)V" } : Jvm.MethodName)) ∈ lw_all := lw_g (lw_at lw_m12 21 rfl) rfl
theorem q2804 : (Jvm.Cond.code ({ cls := "OldWeatherModel", name := "addDays", desc := "(III)V" } : Jvm.MethodName) prog_31_method_132_code (6 : Nat) (Option.none : Option Jvm.ClassFile.FieldType)) ∈ lw_all := lw_g (lw_at lw_m12 22 rfl) rfl
theorem q2808 : (Jvm.Cond.code ({ cls := "OldWeatherModel", name := "rank", desc := "(IIIIII)I" } : Jvm.MethodName) prog_31_method_136_code (16 : Nat) (Option.some Jvm.ClassFile.FieldType.int)) ∈ lw_all := lw_g (lw_at lw_m12 26 rfl) rfl
theorem q2812 : (Jvm.Cond.code ({ cls := "OldWeatherModel", name := "often", desc := "(IIIII)I" } : Jvm.MethodName) prog_31_method_137_code (13 : Nat) (Option.some Jvm.ClassFile.FieldType.int)) ∈ lw_all := lw_g (lw_at lw_m12 30 rfl) rfl
theorem q2816 : (Jvm.Cond.code ({ cls := "OldWeatherModel", name := "offer", desc := "(IIIII)I" } : Jvm.MethodName) prog_31_method_138_code (7 : Nat) (Option.some Jvm.ClassFile.FieldType.int)) ∈ lw_all := lw_g (lw_at lw_m12 34 rfl) rfl
theorem q2821 : (Jvm.Cond.code ({ cls := "OldWeatherModel", name := "plan", desc := "(IIIIII)I" } : Jvm.MethodName) prog_31_method_140_code (14 : Nat) (Option.some Jvm.ClassFile.FieldType.int)) ∈ lw_all := lw_g (lw_at lw_m12 39 rfl) rfl
theorem q2823 : (Jvm.Cond.methodLink "OldWeatherModel" (687 : Nat) ({ cls := "OldWeatherModel", name := "widthsBy", desc := "(IIII)I" } : Jvm.MethodName)) ∈ lw_all := lw_g (lw_at lw_m12 41 rfl) rfl
theorem q2825 : (Jvm.Cond.instanceMethod ({ cls := "OldWeatherModel", name := "widthsBy", desc := "(IIII)I" } : Jvm.MethodName)) ∈ lw_all := lw_g (lw_at lw_m12 43 rfl) rfl
theorem q2826 : (Jvm.Cond.code ({ cls := "OldWeatherModel", name := "widthsBy", desc := "(IIII)I" } : Jvm.MethodName) prog_31_method_139_code (11 : Nat) (Option.some Jvm.ClassFile.FieldType.int)) ∈ lw_all := lw_g (lw_at lw_m12 44 rfl) rfl
theorem q2830 : (Jvm.Cond.code ({ cls := "OldWeatherModel", name := "seal", desc := "(II)I" } : Jvm.MethodName) prog_31_method_145_code (3 : Nat) (Option.some Jvm.ClassFile.FieldType.int)) ∈ lw_all := lw_g (lw_at lw_m12 48 rfl) rfl
theorem q2831 : (Jvm.Cond.methodLink "OldWeatherModel" (703 : Nat) ({ cls := "OldWeatherModel", name := "isMonth", desc := "(II)Z" } : Jvm.MethodName)) ∈ lw_all := lw_g (lw_at lw_m12 49 rfl) rfl
theorem q2832 : (Jvm.Cond.static ({ cls := "OldWeatherModel", name := "isMonth", desc := "(II)Z" } : Jvm.MethodName)) ∈ lw_all := lw_g (lw_at lw_m12 50 rfl) rfl
theorem q2833 : (Jvm.Cond.code ({ cls := "OldWeatherModel", name := "isMonth", desc := "(II)Z" } : Jvm.MethodName) prog_31_method_142_code (2 : Nat) (Option.some Jvm.ClassFile.FieldType.boolean)) ∈ lw_all := lw_g (lw_at lw_m12 51 rfl) rfl
theorem q2834 : (Jvm.Cond.methodLink "OldWeatherModel" (706 : Nat) ({ cls := "OldWeatherModel", name := "addMonth", desc := "(II)V" } : Jvm.MethodName)) ∈ lw_all := lw_g (lw_at lw_m12 52 rfl) rfl
theorem q2836 : (Jvm.Cond.instanceMethod ({ cls := "OldWeatherModel", name := "addMonth", desc := "(II)V" } : Jvm.MethodName)) ∈ lw_all := lw_g (lw_at lw_m12 54 rfl) rfl
theorem q2837 : (Jvm.Cond.code ({ cls := "OldWeatherModel", name := "addMonth", desc := "(II)V" } : Jvm.MethodName) prog_31_method_144_code (4 : Nat) (Option.none : Option Jvm.ClassFile.FieldType)) ∈ lw_all := lw_g (lw_at lw_m12 55 rfl) rfl
theorem q2838 : (Jvm.Cond.methodLink "OldWeatherModel" (699 : Nat) ({ cls := "OldWeatherModel", name := "isOf", desc := "(III)Z" } : Jvm.MethodName)) ∈ lw_all := lw_g (lw_at lw_m12 56 rfl) rfl
theorem q2840 : (Jvm.Cond.instanceMethod ({ cls := "OldWeatherModel", name := "isOf", desc := "(III)Z" } : Jvm.MethodName)) ∈ lw_all := lw_g (lw_at lw_m12 58 rfl) rfl
theorem q2841 : (Jvm.Cond.code ({ cls := "OldWeatherModel", name := "isOf", desc := "(III)Z" } : Jvm.MethodName) prog_31_method_143_code (4 : Nat) (Option.some Jvm.ClassFile.FieldType.boolean)) ∈ lw_all := lw_g (lw_at lw_m12 59 rfl) rfl
theorem q2842 : (Jvm.Cond.methodLink "OldWeatherModel" (709 : Nat) ({ cls := "OldWeatherModel", name := "sealAt", desc := "(II)I" } : Jvm.MethodName)) ∈ lw_all := lw_g (lw_at lw_m12 60 rfl) rfl
theorem q2843 : (Jvm.Cond.static ({ cls := "OldWeatherModel", name := "sealAt", desc := "(II)I" } : Jvm.MethodName)) ∈ lw_all := lw_g (lw_at lw_m12 61 rfl) rfl
theorem q2844 : (Jvm.Cond.code ({ cls := "OldWeatherModel", name := "sealAt", desc := "(II)I" } : Jvm.MethodName) prog_31_method_141_code (2 : Nat) (Option.some Jvm.ClassFile.FieldType.int)) ∈ lw_all := lw_g (lw_at lw_m12 62 rfl) rfl
theorem q2848 : (Jvm.Cond.code ({ cls := "OldWeatherModel", name := "alter", desc := "(II)I" } : Jvm.MethodName) prog_31_method_146_code (3 : Nat) (Option.some Jvm.ClassFile.FieldType.int)) ∈ lw_all := lw_g (lw_at lw_m12 66 rfl) rfl
theorem q2853 : (Jvm.Cond.code ({ cls := "OldWeatherModel", name := "found", desc := "(II)I" } : Jvm.MethodName) prog_31_method_147_code (8 : Nat) (Option.some Jvm.ClassFile.FieldType.int)) ∈ lw_all := lw_g (lw_at lw_m12 71 rfl) rfl
theorem q2857 : (Jvm.Cond.code ({ cls := "OldWeatherModel", name := "count", desc := "(I)I" } : Jvm.MethodName) prog_31_method_148_code (2 : Nat) (Option.some Jvm.ClassFile.FieldType.int)) ∈ lw_all := lw_g (lw_at lw_m12 75 rfl) rfl
theorem q2861 : (Jvm.Cond.code ({ cls := "OldWeatherModel", name := "status", desc := "()I" } : Jvm.MethodName) prog_31_method_149_code (1 : Nat) (Option.some Jvm.ClassFile.FieldType.int)) ∈ lw_all := lw_g (lw_at lw_m12 79 rfl) rfl
theorem q2864 : (Jvm.Cond.initialized "OldWeather$Bounds") ∈ lw_all := lw_g (lw_at lw_m12 82 rfl) rfl
def mq0 : Mq := (⟨"java/util/AbstractCollection", "<init>", "()V"⟩, prog_52_method_1_code, 1, none, [])
theorem mk0 : MX 0 mq0 := ⟨iJ0_init, rfl, by decide, kJ0_init, by decide +kernel, rfl, rfl, rfl, (fun _ => rfl), rfl, by decide +kernel, q216, trivial⟩
theorem mc0 : CALL0 0 mq0 := ⟨by decide, q145, ⟨by decide, by decide, by decide +kernel⟩, q216⟩
def mq256 : Mq := (⟨"java/util/AbstractList", "<init>", "()V"⟩, prog_53_method_1_code, 1, none, [])
theorem mk256 : MX 256 mq256 := ⟨iJ1_init, rfl, by decide, kJ1_init, by decide +kernel, rfl, rfl, rfl, (fun _ => rfl), rfl, by decide +kernel, q213, trivial⟩
theorem mc256 : CALL0 0 mq256 := ⟨by decide, q146, ⟨by decide, by decide, by decide +kernel⟩, q213⟩
def mq1024 : Mq := (⟨"java/util/Objects", "checkIndex", "(II)I"⟩, prog_58_method_17_code, 2, (some (Jvm.ClassFile.FieldType.int)), [])
theorem mk1024 : MX 1024 mq1024 := ⟨iJ12_checkIndex, rfl, by decide, kJ12_checkIndex, by decide +kernel, rfl, rfl, rfl, (fun h => nomatch h), rfl, by decide +kernel, q1144, trivial⟩
theorem mc1024 : CALL0 2 mq1024 := ⟨by decide, q172, ⟨by decide, by decide, by decide +kernel⟩, q1144⟩
def mq1280 : Mq := (⟨"jdk/internal/util/Preconditions", "checkIndex", "(IILjava/util/function/BiFunction;)I"⟩, prog_62_method_11_code, 3, (some (Jvm.ClassFile.FieldType.int)), [])
theorem mk1280 : MX 1280 mq1280 := ⟨iJ13_checkIndex, rfl, by decide, kJ13_checkIndex, by decide +kernel, rfl, rfl, rfl, (fun h => nomatch h), rfl, by decide +kernel, q1147, trivial⟩
theorem mc1280 : CALL0 3 mq1280 := ⟨by decide, q173, ⟨by decide, by decide, by decide +kernel⟩, q1147⟩
def mq2304 : Mq := (⟨"java/lang/Integer", "bitCount", "(I)I"⟩, prog_41_method_49_code, 1, (some (Jvm.ClassFile.FieldType.int)), [])
theorem mk2304 : MX 2304 mq2304 := ⟨iJ17_bitCount, rfl, by decide, kJ17_bitCount, by decide +kernel, rfl, rfl, rfl, (fun h => nomatch h), rfl, by decide +kernel, q1932, trivial⟩
theorem mc2304 : CALL0 1 mq2304 := ⟨by decide, q191, ⟨by decide, by decide, by decide +kernel⟩, q1932⟩
def mq2816 : Mq := (⟨"java/util/ArrayList", "<init>", "(I)V"⟩, prog_54_method_1_code, 2, none, [])
theorem mk2816 : MX 2816 mq2816 := ⟨iJ2_init, rfl, by decide, kJ2_init, by decide +kernel, rfl, rfl, rfl, (fun _ => rfl), rfl, by decide +kernel, q210, trivial⟩
theorem mc2816 : CALL0 1 mq2816 := ⟨by decide, q147, ⟨by decide, by decide, by decide +kernel⟩, q210⟩
def mq2817 : Mq := (⟨"java/util/ArrayList", "clear", "()V"⟩, prog_54_method_40_code, 4, none, [])
theorem mk2817 : MX 2817 mq2817 := ⟨iJ2_clear, rfl, by decide, kJ2_clear, by decide +kernel, rfl, rfl, rfl, (fun h => nomatch h), rfl, by decide +kernel, q764, trivial⟩
theorem mc2817 : CALL0 0 mq2817 := ⟨by decide, q147, ⟨by decide, by decide, by decide +kernel⟩, q764⟩
def mq2818 : Mq := (⟨"java/util/ArrayList", "addAll", "(Ljava/util/Collection;)Z"⟩, prog_54_method_41_code, 6, (some (Jvm.ClassFile.FieldType.boolean)), [])
theorem mk2818 : MX 2818 mq2818 := ⟨iJ2_addAll, rfl, by decide, kJ2_addAll, by decide +kernel, rfl, rfl, rfl, (fun h => nomatch h), rfl, by decide +kernel, q768, trivial⟩
theorem mc2818 : CALL0 1 mq2818 := ⟨by decide, q147, ⟨by decide, by decide, by decide +kernel⟩, q768⟩
def mq2819 : Mq := (⟨"java/util/ArrayList", "toArray", "()[Ljava/lang/Object;"⟩, prog_54_method_16_code, 1, (some ((Jvm.ClassFile.FieldType.array (Jvm.ClassFile.FieldType.object "java/lang/Object")))), [])
theorem mk2819 : MX 2819 mq2819 := ⟨iJ2_toArray, rfl, by decide, kJ2_toArray, by decide +kernel, rfl, rfl, rfl, (fun h => nomatch h), ⟨_, rfl, Or.inr ⟨_, rfl⟩⟩, by decide +kernel, q778, trivial⟩
theorem mc2819 : CALL0 0 mq2819 := ⟨by decide, q147, ⟨by decide, by decide, by decide +kernel⟩, q778⟩
def mq2820 : Mq := (⟨"java/util/ArrayList", "grow", "(I)[Ljava/lang/Object;"⟩, prog_54_method_6_code, 4, (some ((Jvm.ClassFile.FieldType.array (Jvm.ClassFile.FieldType.object "java/lang/Object")))), [])
theorem mk2820 : MX 2820 mq2820 := ⟨iJ2_grow, rfl, by decide, kJ2_grow, by decide +kernel, rfl, rfl, rfl, (fun h => nomatch h), ⟨_, rfl, Or.inr ⟨_, rfl⟩⟩, by decide +kernel, q829, trivial⟩
theorem mc2820 : CALL0 1 mq2820 := ⟨by decide, q147, ⟨by decide, by decide, by decide +kernel⟩, q829⟩
def mq2821 : Mq := (⟨"java/util/ArrayList", "size", "()I"⟩, prog_54_method_8_code, 1, (some (Jvm.ClassFile.FieldType.int)), [])
theorem mk2821 : MX 2821 mq2821 := ⟨iJ2_size, rfl, by decide, kJ2_size, by decide +kernel, rfl, rfl, rfl, (fun h => nomatch h), rfl, by decide +kernel, q905, trivial⟩
theorem mc2821 : CALL0 0 mq2821 := ⟨by decide, q147, ⟨by decide, by decide, by decide +kernel⟩, q905⟩
def mq2822 : Mq := (⟨"java/util/ArrayList", "add", "(Ljava/lang/Object;)Z"⟩, prog_54_method_25_code, 2, (some (Jvm.ClassFile.FieldType.boolean)), [])
theorem mk2822 : MX 2822 mq2822 := ⟨iJ2_add, rfl, by decide, kJ2_add, by decide +kernel, rfl, rfl, rfl, (fun h => nomatch h), rfl, by decide +kernel, q959, trivial⟩
theorem mc2822 : CALL0 1 mq2822 := ⟨by decide, q147, ⟨by decide, by decide, by decide +kernel⟩, q959⟩
def mq2823 : Mq := (⟨"java/util/ArrayList", "add", "(Ljava/lang/Object;[Ljava/lang/Object;I)V"⟩, prog_54_method_24_code, 4, none, [])
theorem mk2823 : MX 2823 mq2823 := ⟨iJ2_add_2, rfl, by decide, kJ2_add_2, by decide +kernel, rfl, rfl, rfl, (fun h => nomatch h), rfl, by decide +kernel, q963, trivial⟩
theorem mc2823 : CALL0 3 mq2823 := ⟨by decide, q147, ⟨by decide, by decide, by decide +kernel⟩, q963⟩
def mq2824 : Mq := (⟨"java/util/ArrayList", "grow", "()[Ljava/lang/Object;"⟩, prog_54_method_7_code, 1, (some ((Jvm.ClassFile.FieldType.array (Jvm.ClassFile.FieldType.object "java/lang/Object")))), [])
theorem mk2824 : MX 2824 mq2824 := ⟨iJ2_grow_2, rfl, by decide, kJ2_grow_2, by decide +kernel, rfl, rfl, rfl, (fun h => nomatch h), ⟨_, rfl, Or.inr ⟨_, rfl⟩⟩, by decide +kernel, q967, trivial⟩
theorem mc2824 : CALL0 0 mq2824 := ⟨by decide, q147, ⟨by decide, by decide, by decide +kernel⟩, q967⟩
def mq2825 : Mq := (⟨"java/util/ArrayList", "get", "(I)Ljava/lang/Object;"⟩, prog_54_method_20_code, 2, (some ((Jvm.ClassFile.FieldType.object "java/lang/Object"))), [])
theorem mk2825 : MX 2825 mq2825 := ⟨iJ2_get, rfl, by decide, kJ2_get, by decide +kernel, rfl, rfl, rfl, (fun h => nomatch h), ⟨_, rfl, Or.inl ⟨_, rfl⟩⟩, by decide +kernel, q1141, trivial⟩
theorem mc2825 : CALL0 1 mq2825 := ⟨by decide, q147, ⟨by decide, by decide, by decide +kernel⟩, q1141⟩
def mq2826 : Mq := (⟨"java/util/ArrayList", "elementData", "(I)Ljava/lang/Object;"⟩, prog_54_method_18_code, 2, (some ((Jvm.ClassFile.FieldType.object "java/lang/Object"))), [])
theorem mk2826 : MX 2826 mq2826 := ⟨iJ2_elementData, rfl, by decide, kJ2_elementData, by decide +kernel, rfl, rfl, rfl, (fun h => nomatch h), ⟨_, rfl, Or.inl ⟨_, rfl⟩⟩, by decide +kernel, q1151, trivial⟩
theorem mc2826 : CALL0 1 mq2826 := ⟨by decide, q147, ⟨by decide, by decide, by decide +kernel⟩, q1151⟩
def mq3584 : Mq := (⟨"java/lang/Math", "max", "(II)I"⟩, prog_43_method_65_code, 2, (some (Jvm.ClassFile.FieldType.int)), [])
theorem mk3584 : MX 3584 mq3584 := ⟨iJ5_max, rfl, by decide, kJ5_max, by decide +kernel, rfl, rfl, rfl, (fun h => nomatch h), rfl, by decide +kernel, q742, trivial⟩
theorem mc3584 : CALL0 2 mq3584 := ⟨by decide, q156, ⟨by decide, by decide, by decide +kernel⟩, q742⟩
def mq3585 : Mq := (⟨"java/lang/Math", "min", "(II)I"⟩, prog_43_method_69_code, 2, (some (Jvm.ClassFile.FieldType.int)), [])
theorem mk3585 : MX 3585 mq3585 := ⟨iJ5_min, rfl, by decide, kJ5_min, by decide +kernel, rfl, rfl, rfl, (fun h => nomatch h), rfl, by decide +kernel, q822, trivial⟩
theorem mc3585 : CALL0 2 mq3585 := ⟨by decide, q156, ⟨by decide, by decide, by decide +kernel⟩, q822⟩
def mq3586 : Mq := (⟨"java/lang/Math", "abs", "(J)J"⟩, prog_43_method_61_code, 2, (some (Jvm.ClassFile.FieldType.long)), [])
theorem mk3586 : MX 3586 mq3586 := ⟨iJ5_abs, rfl, by decide, kJ5_abs, by decide +kernel, rfl, rfl, rfl, (fun h => nomatch h), rfl, by decide +kernel, q1734, trivial⟩
theorem mc3586 : CALL0 1 mq3586 := ⟨by decide, q156, ⟨by decide, by decide, by decide +kernel⟩, q1734⟩
def mq3587 : Mq := (⟨"java/lang/Math", "min", "(JJ)J"⟩, prog_43_method_70_code, 4, (some (Jvm.ClassFile.FieldType.long)), [])
theorem mk3587 : MX 3587 mq3587 := ⟨iJ5_min_2, rfl, by decide, kJ5_min_2, by decide +kernel, rfl, rfl, rfl, (fun h => nomatch h), rfl, by decide +kernel, q1744, trivial⟩
theorem mc3587 : CALL0 2 mq3587 := ⟨by decide, q156, ⟨by decide, by decide, by decide +kernel⟩, q1744⟩
def mq3588 : Mq := (⟨"java/lang/Math", "max", "(JJ)J"⟩, prog_43_method_66_code, 4, (some (Jvm.ClassFile.FieldType.long)), [])
theorem mk3588 : MX 3588 mq3588 := ⟨iJ5_max_2, rfl, by decide, kJ5_max_2, by decide +kernel, rfl, rfl, rfl, (fun h => nomatch h), rfl, by decide +kernel, q1747, trivial⟩
theorem mc3588 : CALL0 2 mq3588 := ⟨by decide, q156, ⟨by decide, by decide, by decide +kernel⟩, q1747⟩
def mq3589 : Mq := (⟨"java/lang/Math", "floorDiv", "(JJ)J"⟩, prog_43_method_49_code, 6, (some (Jvm.ClassFile.FieldType.long)), [])
theorem mk3589 : MX 3589 mq3589 := ⟨iJ5_floorDiv, rfl, by decide, kJ5_floorDiv, by decide +kernel, rfl, rfl, rfl, (fun h => nomatch h), rfl, by decide +kernel, q1821, trivial⟩
theorem mc3589 : CALL0 2 mq3589 := ⟨by decide, q156, ⟨by decide, by decide, by decide +kernel⟩, q1821⟩
def mq3590 : Mq := (⟨"java/lang/Math", "floorDiv", "(II)I"⟩, prog_43_method_47_code, 3, (some (Jvm.ClassFile.FieldType.int)), [])
theorem mk3590 : MX 3590 mq3590 := ⟨iJ5_floorDiv_2, rfl, by decide, kJ5_floorDiv_2, by decide +kernel, rfl, rfl, rfl, (fun h => nomatch h), rfl, by decide +kernel, q1840, trivial⟩
theorem mc3590 : CALL0 2 mq3590 := ⟨by decide, q156, ⟨by decide, by decide, by decide +kernel⟩, q1840⟩
def mq3840 : Mq := (⟨"jdk/internal/util/ArraysSupport", "newLength", "(III)I"⟩, prog_61_method_27_code, 4, (some (Jvm.ClassFile.FieldType.int)), [])
theorem mk3840 : MX 3840 mq3840 := ⟨iJ6_newLength, rfl, by decide, kJ6_newLength, by decide +kernel, rfl, rfl, rfl, (fun h => nomatch h), rfl, by decide +kernel, q834, trivial⟩
theorem mc3840 : CALL0 3 mq3840 := ⟨by decide, q159, ⟨by decide, by decide, by decide +kernel⟩, q834⟩
def mq3841 : Mq := (⟨"jdk/internal/util/ArraysSupport", "hugeLength", "(II)I"⟩, prog_61_method_28_code, 3, (some (Jvm.ClassFile.FieldType.int)), [])
theorem mk3841 : MX 3841 mq3841 := ⟨iJ6_hugeLength, rfl, by decide, kJ6_hugeLength, by decide +kernel, rfl, rfl, rfl, (fun h => nomatch h), rfl, by decide +kernel, q839, trivial⟩
theorem mc3841 : CALL0 2 mq3841 := ⟨by decide, q159, ⟨by decide, by decide, by decide +kernel⟩, q839⟩
def mq5120 : Mq := (⟨"OldWeather", "<init>", "()V"⟩, prog_1_method_1_code, 1, none, [])
theorem mk5120 : MX 5120 mq5120 := ⟨iX0_init, rfl, by decide, kX0_init, by decide +kernel, rfl, rfl, rfl, (fun _ => rfl), rfl, by decide +kernel, q196, trivial⟩
theorem mc5120 : CALL0 0 mq5120 := ⟨by decide, q143, ⟨by decide, by decide, by decide +kernel⟩, q196⟩
def mq5121 : Mq := (⟨"OldWeather", "day", "(IIII)I"⟩, prog_1_method_13_code, 6, (some (Jvm.ClassFile.FieldType.int)), [])
theorem mk5121 : MX 5121 mq5121 := ⟨iX0_day, rfl, by decide, kX0_day, by decide +kernel, rfl, rfl, rfl, (fun h => nomatch h), rfl, by decide +kernel, q710, trivial⟩
theorem mc5121 : CALL0 4 mq5121 := ⟨by decide, q143, ⟨by decide, by decide, by decide +kernel⟩, q710⟩
def mq5122 : Mq := (⟨"OldWeather", "in", "(III)Z"⟩, prog_1_method_5_code, 3, (some (Jvm.ClassFile.FieldType.boolean)), [])
theorem mk5122 : MX 5122 mq5122 := ⟨iX0_in, rfl, by decide, kX0_in, by decide +kernel, rfl, rfl, rfl, (fun h => nomatch h), rfl, by decide +kernel, q713, trivial⟩
theorem mc5122 : CALL0 3 mq5122 := ⟨by decide, q143, ⟨by decide, by decide, by decide +kernel⟩, q713⟩
def mq5123 : Mq := (⟨"OldWeather", "isDate", "(IIII)Z"⟩, prog_1_method_10_code, 4, (some (Jvm.ClassFile.FieldType.boolean)), [])
theorem mk5123 : MX 5123 mq5123 := ⟨iX0_isDate, rfl, by decide, kX0_isDate, by decide +kernel, rfl, rfl, rfl, (fun h => nomatch h), rfl, by decide +kernel, q716, trivial⟩
theorem mc5123 : CALL0 4 mq5123 := ⟨by decide, q143, ⟨by decide, by decide, by decide +kernel⟩, q716⟩
def mq5124 : Mq := (⟨"OldWeather", "daysOf", "(III)I"⟩, prog_1_method_9_code, 3, (some (Jvm.ClassFile.FieldType.int)), [])
theorem mk5124 : MX 5124 mq5124 := ⟨iX0_daysOf, rfl, by decide, kX0_daysOf, by decide +kernel, rfl, rfl, rfl, (fun h => nomatch h), rfl, by decide +kernel, q719, trivial⟩
theorem mc5124 : CALL0 3 mq5124 := ⟨by decide, q143, ⟨by decide, by decide, by decide +kernel⟩, q719⟩
def mq5125 : Mq := (⟨"OldWeather", "isLong", "(II)Z"⟩, prog_1_method_8_code, 2, (some (Jvm.ClassFile.FieldType.boolean)), [])
theorem mk5125 : MX 5125 mq5125 := ⟨iX0_isLong, rfl, by decide, kX0_isLong, by decide +kernel, rfl, rfl, rfl, (fun h => nomatch h), rfl, by decide +kernel, q722, trivial⟩
theorem mc5125 : CALL0 2 mq5125 := ⟨by decide, q143, ⟨by decide, by decide, by decide +kernel⟩, q722⟩
def mq5126 : Mq := (⟨"OldWeather", "dayAt", "(IIII)I"⟩, prog_1_method_12_code, 6, (some (Jvm.ClassFile.FieldType.int)), [])
theorem mk5126 : MX 5126 mq5126 := ⟨iX0_dayAt, rfl, by decide, kX0_dayAt, by decide +kernel, rfl, rfl, rfl, (fun h => nomatch h), rfl, by decide +kernel, q725, trivial⟩
theorem mc5126 : CALL0 4 mq5126 := ⟨by decide, q143, ⟨by decide, by decide, by decide +kernel⟩, q725⟩
def mq5127 : Mq := (⟨"OldWeather", "yearBegins", "(II)I"⟩, prog_1_method_11_code, 4, (some (Jvm.ClassFile.FieldType.int)), [])
theorem mk5127 : MX 5127 mq5127 := ⟨iX0_yearBegins, rfl, by decide, kX0_yearBegins, by decide +kernel, rfl, rfl, rfl, (fun h => nomatch h), rfl, by decide +kernel, q728, trivial⟩
theorem mc5127 : CALL0 2 mq5127 := ⟨by decide, q143, ⟨by decide, by decide, by decide +kernel⟩, q728⟩
def mq5128 : Mq := (⟨"OldWeather", "isDay", "(I)Z"⟩, prog_1_method_7_code, 1, (some (Jvm.ClassFile.FieldType.boolean)), [])
theorem mk5128 : MX 5128 mq5128 := ⟨iX0_isDay, rfl, by decide, kX0_isDay, by decide +kernel, rfl, rfl, rfl, (fun h => nomatch h), rfl, by decide +kernel, q731, trivial⟩
theorem mc5128 : CALL0 1 mq5128 := ⟨by decide, q143, ⟨by decide, by decide, by decide +kernel⟩, q731⟩
def mq5129 : Mq := (⟨"OldWeather", "date", "(II)I"⟩, prog_1_method_16_code, 5, (some (Jvm.ClassFile.FieldType.int)), [])
theorem mk5129 : MX 5129 mq5129 := ⟨iX0_date, rfl, by decide, kX0_date, by decide +kernel, rfl, rfl, rfl, (fun h => nomatch h), rfl, by decide +kernel, q736, trivial⟩
theorem mc5129 : CALL0 2 mq5129 := ⟨by decide, q143, ⟨by decide, by decide, by decide +kernel⟩, q736⟩
def mq5130 : Mq := (⟨"OldWeather", "yearOf", "(II)I"⟩, prog_1_method_14_code, 3, (some (Jvm.ClassFile.FieldType.int)), [])
theorem mk5130 : MX 5130 mq5130 := ⟨iX0_yearOf, rfl, by decide, kX0_yearOf, by decide +kernel, rfl, rfl, rfl, (fun h => nomatch h), rfl, by decide +kernel, q739, trivial⟩
theorem mc5130 : CALL0 2 mq5130 := ⟨by decide, q143, ⟨by decide, by decide, by decide +kernel⟩, q739⟩
def mq5131 : Mq := (⟨"OldWeather", "monthOf", "(II)I"⟩, prog_1_method_15_code, 5, (some (Jvm.ClassFile.FieldType.int)), [])
theorem mk5131 : MX 5131 mq5131 := ⟨iX0_monthOf, rfl, by decide, kX0_monthOf, by decide +kernel, rfl, rfl, rfl, (fun h => nomatch h), rfl, by decide +kernel, q745, trivial⟩
theorem mc5131 : CALL0 2 mq5131 := ⟨by decide, q143, ⟨by decide, by decide, by decide +kernel⟩, q745⟩
def mq5132 : Mq := (⟨"OldWeather", "image", "(I)I"⟩, prog_1_method_17_code, 2, (some (Jvm.ClassFile.FieldType.int)), [])
theorem mk5132 : MX 5132 mq5132 := ⟨iX0_image, rfl, by decide, kX0_image, by decide +kernel, rfl, rfl, rfl, (fun h => nomatch h), rfl, by decide +kernel, q749, trivial⟩
theorem mc5132 : CALL0 1 mq5132 := ⟨by decide, q143, ⟨by decide, by decide, by decide +kernel⟩, q749⟩
def mq5133 : Mq := (⟨"OldWeather", "refuse", "(I)I"⟩, prog_1_method_2_code, 2, (some (Jvm.ClassFile.FieldType.int)), [])
theorem mk5133 : MX 5133 mq5133 := ⟨iX0_refuse, rfl, by decide, kX0_refuse, by decide +kernel, rfl, rfl, rfl, (fun h => nomatch h), rfl, by decide +kernel, q753, trivial⟩
theorem mc5133 : CALL0 1 mq5133 := ⟨by decide, q143, ⟨by decide, by decide, by decide +kernel⟩, q753⟩
def mq5134 : Mq := (⟨"OldWeather", "done", "(I)I"⟩, prog_1_method_3_code, 2, (some (Jvm.ClassFile.FieldType.int)), [])
theorem mk5134 : MX 5134 mq5134 := ⟨iX0_done, rfl, by decide, kX0_done, by decide +kernel, rfl, rfl, rfl, (fun h => nomatch h), rfl, by decide +kernel, q849, trivial⟩
theorem mc5134 : CALL0 1 mq5134 := ⟨by decide, q143, ⟨by decide, by decide, by decide +kernel⟩, q849⟩
def mq5135 : Mq := (⟨"OldWeather", "back", "(I)I"⟩, prog_1_method_18_code, 2, (some (Jvm.ClassFile.FieldType.int)), [])
theorem mk5135 : MX 5135 mq5135 := ⟨iX0_back, rfl, by decide, kX0_back, by decide +kernel, rfl, rfl, rfl, (fun h => nomatch h), rfl, by decide +kernel, q853, trivial⟩
theorem mc5135 : CALL0 1 mq5135 := ⟨by decide, q143, ⟨by decide, by decide, by decide +kernel⟩, q853⟩
def mq5136 : Mq := (⟨"OldWeather", "told", "(I)I"⟩, prog_1_method_4_code, 2, (some (Jvm.ClassFile.FieldType.int)), [])
theorem mk5136 : MX 5136 mq5136 := ⟨iX0_told, rfl, by decide, kX0_told, by decide +kernel, rfl, rfl, rfl, (fun h => nomatch h), rfl, by decide +kernel, q857, trivial⟩
theorem mc5136 : CALL0 1 mq5136 := ⟨by decide, q143, ⟨by decide, by decide, by decide +kernel⟩, q857⟩
def mq5137 : Mq := (⟨"OldWeather", "place", "(I)I"⟩, prog_1_method_21_code, 4, (some (Jvm.ClassFile.FieldType.int)), [])
theorem mk5137 : MX 5137 mq5137 := ⟨iX0_place, rfl, by decide, kX0_place, by decide +kernel, rfl, rfl, rfl, (fun h => nomatch h), rfl, by decide +kernel, q861, trivial⟩
theorem mc5137 : CALL0 1 mq5137 := ⟨by decide, q143, ⟨by decide, by decide, by decide +kernel⟩, q861⟩
def mq5138 : Mq := (⟨"OldWeather", "season", "(IIII)I"⟩, prog_1_method_22_code, 5, (some (Jvm.ClassFile.FieldType.int)), [])
theorem mk5138 : MX 5138 mq5138 := ⟨iX0_season, rfl, by decide, kX0_season, by decide +kernel, rfl, rfl, rfl, (fun h => nomatch h), rfl, by decide +kernel, q865, trivial⟩
theorem mc5138 : CALL0 4 mq5138 := ⟨by decide, q143, ⟨by decide, by decide, by decide +kernel⟩, q865⟩
def mq5139 : Mq := (⟨"OldWeather", "isPlace", "(I)Z"⟩, prog_1_method_19_code, 2, (some (Jvm.ClassFile.FieldType.boolean)), [])
theorem mk5139 : MX 5139 mq5139 := ⟨iX0_isPlace, rfl, by decide, kX0_isPlace, by decide +kernel, rfl, rfl, rfl, (fun h => nomatch h), rfl, by decide +kernel, q869, trivial⟩
theorem mc5139 : CALL0 1 mq5139 := ⟨by decide, q143, ⟨by decide, by decide, by decide +kernel⟩, q869⟩
def mq5140 : Mq := (⟨"OldWeather", "like", "(III)I"⟩, prog_1_method_23_code, 4, (some (Jvm.ClassFile.FieldType.int)), [])
theorem mk5140 : MX 5140 mq5140 := ⟨iX0_like, rfl, by decide, kX0_like, by decide +kernel, rfl, rfl, rfl, (fun h => nomatch h), rfl, by decide +kernel, q873, trivial⟩
theorem mc5140 : CALL0 3 mq5140 := ⟨by decide, q143, ⟨by decide, by decide, by decide +kernel⟩, q873⟩
def mq5141 : Mq := (⟨"OldWeather", "source", "(II)I"⟩, prog_1_method_24_code, 4, (some (Jvm.ClassFile.FieldType.int)), [])
theorem mk5141 : MX 5141 mq5141 := ⟨iX0_source, rfl, by decide, kX0_source, by decide +kernel, rfl, rfl, rfl, (fun h => nomatch h), rfl, by decide +kernel, q877, trivial⟩
theorem mc5141 : CALL0 2 mq5141 := ⟨by decide, q143, ⟨by decide, by decide, by decide +kernel⟩, q877⟩
def mq5142 : Mq := (⟨"OldWeather", "turn", "(II)I"⟩, prog_1_method_25_code, 3, (some (Jvm.ClassFile.FieldType.int)), [])
theorem mk5142 : MX 5142 mq5142 := ⟨iX0_turn, rfl, by decide, kX0_turn, by decide +kernel, rfl, rfl, rfl, (fun h => nomatch h), rfl, by decide +kernel, q881, trivial⟩
theorem mc5142 : CALL0 2 mq5142 := ⟨by decide, q143, ⟨by decide, by decide, by decide +kernel⟩, q881⟩
def mq5143 : Mq := (⟨"OldWeather", "isSource", "(I)Z"⟩, prog_1_method_20_code, 2, (some (Jvm.ClassFile.FieldType.boolean)), [])
theorem mk5143 : MX 5143 mq5143 := ⟨iX0_isSource, rfl, by decide, kX0_isSource, by decide +kernel, rfl, rfl, rfl, (fun h => nomatch h), rfl, by decide +kernel, q886, trivial⟩
theorem mc5143 : CALL0 1 mq5143 := ⟨by decide, q143, ⟨by decide, by decide, by decide +kernel⟩, q886⟩
def mq5144 : Mq := (⟨"OldWeather", "stopped", "(I)I"⟩, prog_1_method_26_code, 2, (some (Jvm.ClassFile.FieldType.int)), [])
theorem mk5144 : MX 5144 mq5144 := ⟨iX0_stopped, rfl, by decide, kX0_stopped, by decide +kernel, rfl, rfl, rfl, (fun h => nomatch h), rfl, by decide +kernel, q890, trivial⟩
theorem mc5144 : CALL0 1 mq5144 := ⟨by decide, q143, ⟨by decide, by decide, by decide +kernel⟩, q890⟩
def mq5145 : Mq := (⟨"OldWeather", "word", "(IIIIII)I"⟩, prog_1_method_29_code, 8, (some (Jvm.ClassFile.FieldType.int)), [])
theorem mk5145 : MX 5145 mq5145 := ⟨iX0_word, rfl, by decide, kX0_word, by decide +kernel, rfl, rfl, rfl, (fun h => nomatch h), rfl, by decide +kernel, q894, trivial⟩
theorem mc5145 : CALL0 6 mq5145 := ⟨by decide, q143, ⟨by decide, by decide, by decide +kernel⟩, q894⟩
def mq5146 : Mq := (⟨"OldWeather", "lacks", "(IIIII)I"⟩, prog_1_method_27_code, 6, (some (Jvm.ClassFile.FieldType.int)), [])
theorem mk5146 : MX 5146 mq5146 := ⟨iX0_lacks, rfl, by decide, kX0_lacks, by decide +kernel, rfl, rfl, rfl, (fun h => nomatch h), rfl, by decide +kernel, q898, trivial⟩
theorem mc5146 : CALL0 5 mq5146 := ⟨by decide, q143, ⟨by decide, by decide, by decide +kernel⟩, q898⟩
def mq5147 : Mq := (⟨"OldWeather", "isDesk", "(I)Z"⟩, prog_1_method_6_code, 1, (some (Jvm.ClassFile.FieldType.boolean)), [])
theorem mk5147 : MX 5147 mq5147 := ⟨iX0_isDesk, rfl, by decide, kX0_isDesk, by decide +kernel, rfl, rfl, rfl, (fun h => nomatch h), rfl, by decide +kernel, q901, trivial⟩
theorem mc5147 : CALL0 1 mq5147 := ⟨by decide, q143, ⟨by decide, by decide, by decide +kernel⟩, q901⟩
def mq5148 : Mq := (⟨"OldWeather", "puts", "(LOldWeather$Reading;I)I"⟩, prog_1_method_28_code, 3, (some (Jvm.ClassFile.FieldType.int)), [])
theorem mk5148 : MX 5148 mq5148 := ⟨iX0_puts, rfl, by decide, kX0_puts, by decide +kernel, rfl, rfl, rfl, (fun h => nomatch h), rfl, by decide +kernel, q955, trivial⟩
theorem mc5148 : CALL0 2 mq5148 := ⟨by decide, q143, ⟨by decide, by decide, by decide +kernel⟩, q955⟩
def mq5149 : Mq := (⟨"OldWeather", "gauge", "(IIIIII)I"⟩, prog_1_method_30_code, 8, (some (Jvm.ClassFile.FieldType.int)), [])
theorem mk5149 : MX 5149 mq5149 := ⟨iX0_gauge, rfl, by decide, kX0_gauge, by decide +kernel, rfl, rfl, rfl, (fun h => nomatch h), rfl, by decide +kernel, q971, trivial⟩
theorem mc5149 : CALL0 6 mq5149 := ⟨by decide, q143, ⟨by decide, by decide, by decide +kernel⟩, q971⟩
def mq5150 : Mq := (⟨"OldWeather", "log", "(IIIIII)I"⟩, prog_1_method_31_code, 8, (some (Jvm.ClassFile.FieldType.int)), [])
theorem mk5150 : MX 5150 mq5150 := ⟨iX0_log, rfl, by decide, kX0_log, by decide +kernel, rfl, rfl, rfl, (fun h => nomatch h), rfl, by decide +kernel, q988, trivial⟩
theorem mc5150 : CALL0 6 mq5150 := ⟨by decide, q143, ⟨by decide, by decide, by decide +kernel⟩, q988⟩
def mq5151 : Mq := (⟨"OldWeather", "proxy", "(IIIIIII)I"⟩, prog_1_method_32_code, 9, (some (Jvm.ClassFile.FieldType.int)), [])
theorem mk5151 : MX 5151 mq5151 := ⟨iX0_proxy, rfl, by decide, kX0_proxy, by decide +kernel, rfl, rfl, rfl, (fun h => nomatch h), rfl, by decide +kernel, q1005, trivial⟩
theorem mc5151 : CALL0 7 mq5151 := ⟨by decide, q143, ⟨by decide, by decide, by decide +kernel⟩, q1005⟩
def mq5152 : Mq := (⟨"OldWeather", "copy", "(IIIIII)I"⟩, prog_1_method_33_code, 8, (some (Jvm.ClassFile.FieldType.int)), [])
theorem mk5152 : MX 5152 mq5152 := ⟨iX0_copy, rfl, by decide, kX0_copy, by decide +kernel, rfl, rfl, rfl, (fun h => nomatch h), rfl, by decide +kernel, q1026, trivial⟩
theorem mc5152 : CALL0 6 mq5152 := ⟨by decide, q143, ⟨by decide, by decide, by decide +kernel⟩, q1026⟩
def mq5153 : Mq := (⟨"OldWeather", "isReading", "(I)Z"⟩, prog_1_method_34_code, 2, (some (Jvm.ClassFile.FieldType.boolean)), [])
theorem mk5153 : MX 5153 mq5153 := ⟨iX0_isReading, rfl, by decide, kX0_isReading, by decide +kernel, rfl, rfl, rfl, (fun h => nomatch h), rfl, by decide +kernel, q1030, trivial⟩
theorem mc5153 : CALL0 1 mq5153 := ⟨by decide, q143, ⟨by decide, by decide, by decide +kernel⟩, q1030⟩
def mq5154 : Mq := (⟨"OldWeather", "strike", "(II)I"⟩, prog_1_method_35_code, 3, (some (Jvm.ClassFile.FieldType.int)), [])
theorem mk5154 : MX 5154 mq5154 := ⟨iX0_strike, rfl, by decide, kX0_strike, by decide +kernel, rfl, rfl, rfl, (fun h => nomatch h), rfl, by decide +kernel, q1051, trivial⟩
theorem mc5154 : CALL0 2 mq5154 := ⟨by decide, q143, ⟨by decide, by decide, by decide +kernel⟩, q1051⟩
def mq5155 : Mq := (⟨"OldWeather", "row", "(IIIIII)I"⟩, prog_1_method_37_code, 15, (some (Jvm.ClassFile.FieldType.int)), [(133, 250, 253, 302)])
theorem mk5155 : MX 5155 mq5155 := ⟨iX0_row, rfl, by decide, kX0_row, by decide +kernel, rfl, rfl, rfl, (fun h => nomatch h), rfl, by decide +kernel, q1055, ⟨⟨rfl, rfl, rfl, q1056, q1079, by decide⟩, trivial⟩⟩
theorem mc5155 : CALL0 6 mq5155 := ⟨by decide, q143, ⟨by decide, by decide, by decide +kernel⟩, q1055⟩
def mq5156 : Mq := (⟨"OldWeather", "tenths", "(F)I"⟩, prog_1_method_36_code, 4, (some (Jvm.ClassFile.FieldType.int)), [])
theorem mk5156 : MX 5156 mq5156 := ⟨iX0_tenths, rfl, by decide, kX0_tenths, by decide +kernel, rfl, rfl, rfl, (fun h => nomatch h), rfl, by decide +kernel, q1120, trivial⟩
theorem mc5156 : CALL0 1 mq5156 := ⟨by decide, q143, ⟨by decide, by decide, by decide +kernel⟩, q1120⟩
def mq5157 : Mq := (⟨"OldWeather", "keeps", "(IIIIII)I"⟩, prog_1_method_38_code, 7, (some (Jvm.ClassFile.FieldType.int)), [])
theorem mk5157 : MX 5157 mq5157 := ⟨iX0_keeps, rfl, by decide, kX0_keeps, by decide +kernel, rfl, rfl, rfl, (fun h => nomatch h), rfl, by decide +kernel, q1129, trivial⟩
theorem mc5157 : CALL0 6 mq5157 := ⟨by decide, q143, ⟨by decide, by decide, by decide +kernel⟩, q1129⟩
def mq5158 : Mq := (⟨"OldWeather", "of", "(II)I"⟩, prog_1_method_40_code, 3, (some (Jvm.ClassFile.FieldType.int)), [])
theorem mk5158 : MX 5158 mq5158 := ⟨iX0_of, rfl, by decide, kX0_of, by decide +kernel, rfl, rfl, rfl, (fun h => nomatch h), rfl, by decide +kernel, q1133, trivial⟩
theorem mc5158 : CALL0 2 mq5158 := ⟨by decide, q143, ⟨by decide, by decide, by decide +kernel⟩, q1133⟩
def mq5159 : Mq := (⟨"OldWeather", "dates", "()V"⟩, prog_1_method_39_code, 6, none, [])
theorem mk5159 : MX 5159 mq5159 := ⟨iX0_dates, rfl, by decide, kX0_dates, by decide +kernel, rfl, rfl, rfl, (fun h => nomatch h), rfl, by decide +kernel, q1137, trivial⟩
theorem mc5159 : CALL0 0 mq5159 := ⟨by decide, q143, ⟨by decide, by decide, by decide +kernel⟩, q1137⟩
def mq5160 : Mq := (⟨"OldWeather", "as", "(II)I"⟩, prog_1_method_41_code, 5, (some (Jvm.ClassFile.FieldType.int)), [(27, 79, 148, 331), (80, 95, 148, 331), (96, 111, 148, 331), (112, 127, 148, 331), (128, 143, 148, 331), (144, 147, 148, 331)])
theorem mk5160 : MX 5160 mq5160 := ⟨iX0_as, rfl, by decide, kX0_as, by decide +kernel, rfl, rfl, rfl, (fun h => nomatch h), rfl, by decide +kernel, q1180, ⟨⟨rfl, rfl, rfl, q1181, q1193, by decide⟩, ⟨⟨rfl, rfl, rfl, q1181, q1193, by decide⟩, ⟨⟨rfl, rfl, rfl, q1181, q1193, by decide⟩, ⟨⟨rfl, rfl, rfl, q1181, q1193, by decide⟩, ⟨⟨rfl, rfl, rfl, q1181, q1193, by decide⟩, ⟨⟨rfl, rfl, rfl, q1181, q1193, by decide⟩, trivial⟩⟩⟩⟩⟩⟩⟩
theorem mc5160 : CALL0 2 mq5160 := ⟨by decide, q143, ⟨by decide, by decide, by decide +kernel⟩, q1180⟩
def mq5161 : Mq := (⟨"OldWeather", "feed", "(IIIII)I"⟩, prog_1_method_42_code, 6, (some (Jvm.ClassFile.FieldType.int)), [])
theorem mk5161 : MX 5161 mq5161 := ⟨iX0_feed, rfl, by decide, kX0_feed, by decide +kernel, rfl, rfl, rfl, (fun h => nomatch h), rfl, by decide +kernel, q1198, trivial⟩
theorem mc5161 : CALL0 5 mq5161 := ⟨by decide, q143, ⟨by decide, by decide, by decide +kernel⟩, q1198⟩
def mq5162 : Mq := (⟨"OldWeather", "four", "(I)V"⟩, prog_1_method_43_code, 3, none, [])
theorem mk5162 : MX 5162 mq5162 := ⟨iX0_four, rfl, by decide, kX0_four, by decide +kernel, rfl, rfl, rfl, (fun h => nomatch h), rfl, by decide +kernel, q1202, trivial⟩
theorem mc5162 : CALL0 1 mq5162 := ⟨by decide, q143, ⟨by decide, by decide, by decide +kernel⟩, q1202⟩
def mq5163 : Mq := (⟨"OldWeather", "end", "(I)I"⟩, prog_1_method_44_code, 2, (some (Jvm.ClassFile.FieldType.int)), [])
theorem mk5163 : MX 5163 mq5163 := ⟨iX0_end, rfl, by decide, kX0_end, by decide +kernel, rfl, rfl, rfl, (fun h => nomatch h), rfl, by decide +kernel, q1206, trivial⟩
theorem mc5163 : CALL0 1 mq5163 := ⟨by decide, q143, ⟨by decide, by decide, by decide +kernel⟩, q1206⟩
def mq5164 : Mq := (⟨"OldWeather", "rules", "(I)I"⟩, prog_1_method_45_code, 5, (some (Jvm.ClassFile.FieldType.int)), [(58, 62, 65, 346)])
theorem mk5164 : MX 5164 mq5164 := ⟨iX0_rules, rfl, by decide, kX0_rules, by decide +kernel, rfl, rfl, rfl, (fun h => nomatch h), rfl, by decide +kernel, q1210, ⟨⟨rfl, rfl, rfl, q1211, q1262, by decide⟩, trivial⟩⟩
theorem mc5164 : CALL0 1 mq5164 := ⟨by decide, q143, ⟨by decide, by decide, by decide +kernel⟩, q1210⟩
def mq5165 : Mq := (⟨"OldWeather", "fault", "()I"⟩, prog_1_method_46_code, 1, (some (Jvm.ClassFile.FieldType.int)), [])
theorem mk5165 : MX 5165 mq5165 := ⟨iX0_fault, rfl, by decide, kX0_fault, by decide +kernel, rfl, rfl, rfl, (fun h => nomatch h), rfl, by decide +kernel, q1577, trivial⟩
theorem mc5165 : CALL0 0 mq5165 := ⟨by decide, q143, ⟨by decide, by decide, by decide +kernel⟩, q1577⟩
def mq5166 : Mq := (⟨"OldWeather", "force", "(III)I"⟩, prog_1_method_47_code, 4, (some (Jvm.ClassFile.FieldType.int)), [])
theorem mk5166 : MX 5166 mq5166 := ⟨iX0_force, rfl, by decide, kX0_force, by decide +kernel, rfl, rfl, rfl, (fun h => nomatch h), rfl, by decide +kernel, q1581, trivial⟩
theorem mc5166 : CALL0 3 mq5166 := ⟨by decide, q143, ⟨by decide, by decide, by decide +kernel⟩, q1581⟩
def mq5167 : Mq := (⟨"OldWeather", "scale", "(III)I"⟩, prog_1_method_54_code, 5, (some (Jvm.ClassFile.FieldType.int)), [])
theorem mk5167 : MX 5167 mq5167 := ⟨iX0_scale, rfl, by decide, kX0_scale, by decide +kernel, rfl, rfl, rfl, (fun h => nomatch h), rfl, by decide +kernel, q1597, trivial⟩
theorem mc5167 : CALL0 3 mq5167 := ⟨by decide, q143, ⟨by decide, by decide, by decide +kernel⟩, q1597⟩
def mq5168 : Mq := (⟨"OldWeather", "learned", "(IIII)I"⟩, prog_1_method_57_code, 6, (some (Jvm.ClassFile.FieldType.int)), [])
theorem mk5168 : MX 5168 mq5168 := ⟨iX0_learned, rfl, by decide, kX0_learned, by decide +kernel, rfl, rfl, rfl, (fun h => nomatch h), rfl, by decide +kernel, q1601, trivial⟩
theorem mc5168 : CALL0 4 mq5168 := ⟨by decide, q143, ⟨by decide, by decide, by decide +kernel⟩, q1601⟩
def mq5169 : Mq := (⟨"OldWeather", "isSure", "(II)Z"⟩, prog_1_method_55_code, 3, (some (Jvm.ClassFile.FieldType.boolean)), [])
theorem mk5169 : MX 5169 mq5169 := ⟨iX0_isSure, rfl, by decide, kX0_isSure, by decide +kernel, rfl, rfl, rfl, (fun h => nomatch h), rfl, by decide +kernel, q1614, trivial⟩
theorem mc5169 : CALL0 2 mq5169 := ⟨by decide, q143, ⟨by decide, by decide, by decide +kernel⟩, q1614⟩
def mq5170 : Mq := (⟨"OldWeather", "isKnown", "(II)Z"⟩, prog_1_method_50_code, 3, (some (Jvm.ClassFile.FieldType.boolean)), [])
theorem mk5170 : MX 5170 mq5170 := ⟨iX0_isKnown, rfl, by decide, kX0_isKnown, by decide +kernel, rfl, rfl, rfl, (fun h => nomatch h), rfl, by decide +kernel, q1618, trivial⟩
theorem mc5170 : CALL0 2 mq5170 := ⟨by decide, q143, ⟨by decide, by decide, by decide +kernel⟩, q1618⟩
def mq5171 : Mq := (⟨"OldWeather", "rightOf", "(III)J"⟩, prog_1_method_51_code, 6, (some (Jvm.ClassFile.FieldType.long)), [])
theorem mk5171 : MX 5171 mq5171 := ⟨iX0_rightOf, rfl, by decide, kX0_rightOf, by decide +kernel, rfl, rfl, rfl, (fun h => nomatch h), rfl, by decide +kernel, q1627, trivial⟩
theorem mc5171 : CALL0 3 mq5171 := ⟨by decide, q143, ⟨by decide, by decide, by decide +kernel⟩, q1627⟩
def mq5172 : Mq := (⟨"OldWeather", "last", "(IIIII)I"⟩, prog_1_method_48_code, 13, (some (Jvm.ClassFile.FieldType.int)), [])
theorem mk5172 : MX 5172 mq5172 := ⟨iX0_last, rfl, by decide, kX0_last, by decide +kernel, rfl, rfl, rfl, (fun h => nomatch h), rfl, by decide +kernel, q1631, trivial⟩
theorem mc5172 : CALL0 5 mq5172 := ⟨by decide, q143, ⟨by decide, by decide, by decide +kernel⟩, q1631⟩
def mq5173 : Mq := (⟨"OldWeather", "learns", "(III)Z"⟩, prog_1_method_56_code, 15, (some (Jvm.ClassFile.FieldType.boolean)), [])
theorem mk5173 : MX 5173 mq5173 := ⟨iX0_learns, rfl, by decide, kX0_learns, by decide +kernel, rfl, rfl, rfl, (fun h => nomatch h), rfl, by decide +kernel, q1690, trivial⟩
theorem mc5173 : CALL0 3 mq5173 := ⟨by decide, q143, ⟨by decide, by decide, by decide +kernel⟩, q1690⟩
def mq5174 : Mq := (⟨"OldWeather", "bound", "(III)I"⟩, prog_1_method_59_code, 4, (some (Jvm.ClassFile.FieldType.int)), [])
theorem mk5174 : MX 5174 mq5174 := ⟨iX0_bound, rfl, by decide, kX0_bound, by decide +kernel, rfl, rfl, rfl, (fun h => nomatch h), rfl, by decide +kernel, q1697, trivial⟩
theorem mc5174 : CALL0 3 mq5174 := ⟨by decide, q143, ⟨by decide, by decide, by decide +kernel⟩, q1697⟩
def mq5175 : Mq := (⟨"OldWeather", "bounds", "(III)Z"⟩, prog_1_method_53_code, 10, (some (Jvm.ClassFile.FieldType.boolean)), [])
theorem mk5175 : MX 5175 mq5175 := ⟨iX0_bounds, rfl, by decide, kX0_bounds, by decide +kernel, rfl, rfl, rfl, (fun h => nomatch h), rfl, by decide +kernel, q1725, trivial⟩
theorem mc5175 : CALL0 3 mq5175 := ⟨by decide, q143, ⟨by decide, by decide, by decide +kernel⟩, q1725⟩
def mq5176 : Mq := (⟨"OldWeather", "spans", "(JJ)Z"⟩, prog_1_method_52_code, 5, (some (Jvm.ClassFile.FieldType.boolean)), [])
theorem mk5176 : MX 5176 mq5176 := ⟨iX0_spans, rfl, by decide, kX0_spans, by decide +kernel, rfl, rfl, rfl, (fun h => nomatch h), rfl, by decide +kernel, q1738, trivial⟩
theorem mc5176 : CALL0 2 mq5176 := ⟨by decide, q143, ⟨by decide, by decide, by decide +kernel⟩, q1738⟩
def mq5177 : Mq := (⟨"OldWeather", "within", "(J)I"⟩, prog_1_method_49_code, 2, (some (Jvm.ClassFile.FieldType.int)), [])
theorem mk5177 : MX 5177 mq5177 := ⟨iX0_within, rfl, by decide, kX0_within, by decide +kernel, rfl, rfl, rfl, (fun h => nomatch h), rfl, by decide +kernel, q1741, trivial⟩
theorem mc5177 : CALL0 1 mq5177 := ⟨by decide, q143, ⟨by decide, by decide, by decide +kernel⟩, q1741⟩
def mq5178 : Mq := (⟨"OldWeather", "weightOf", "(III)J"⟩, prog_1_method_58_code, 5, (some (Jvm.ClassFile.FieldType.long)), [])
theorem mk5178 : MX 5178 mq5178 := ⟨iX0_weightOf, rfl, by decide, kX0_weightOf, by decide +kernel, rfl, rfl, rfl, (fun h => nomatch h), rfl, by decide +kernel, q1751, trivial⟩
theorem mc5178 : CALL0 3 mq5178 := ⟨by decide, q143, ⟨by decide, by decide, by decide +kernel⟩, q1751⟩
def mq5179 : Mq := (⟨"OldWeather", "slip", "(III)I"⟩, prog_1_method_60_code, 4, (some (Jvm.ClassFile.FieldType.int)), [])
theorem mk5179 : MX 5179 mq5179 := ⟨iX0_slip, rfl, by decide, kX0_slip, by decide +kernel, rfl, rfl, rfl, (fun h => nomatch h), rfl, by decide +kernel, q1764, trivial⟩
theorem mc5179 : CALL0 3 mq5179 := ⟨by decide, q143, ⟨by decide, by decide, by decide +kernel⟩, q1764⟩
def mq5180 : Mq := (⟨"OldWeather", "same", "(II)I"⟩, prog_1_method_61_code, 3, (some (Jvm.ClassFile.FieldType.int)), [])
theorem mk5180 : MX 5180 mq5180 := ⟨iX0_same, rfl, by decide, kX0_same, by decide +kernel, rfl, rfl, rfl, (fun h => nomatch h), rfl, by decide +kernel, q1798, trivial⟩
theorem mc5180 : CALL0 2 mq5180 := ⟨by decide, q143, ⟨by decide, by decide, by decide +kernel⟩, q1798⟩
def mq5181 : Mq := (⟨"OldWeather", "counts", "(II)I"⟩, prog_1_method_62_code, 3, (some (Jvm.ClassFile.FieldType.int)), [])
theorem mk5181 : MX 5181 mq5181 := ⟨iX0_counts, rfl, by decide, kX0_counts, by decide +kernel, rfl, rfl, rfl, (fun h => nomatch h), rfl, by decide +kernel, q1802, trivial⟩
theorem mc5181 : CALL0 2 mq5181 := ⟨by decide, q143, ⟨by decide, by decide, by decide +kernel⟩, q1802⟩
def mq5182 : Mq := (⟨"OldWeather", "joined", "(IIII)I"⟩, prog_1_method_66_code, 5, (some (Jvm.ClassFile.FieldType.int)), [])
theorem mk5182 : MX 5182 mq5182 := ⟨iX0_joined, rfl, by decide, kX0_joined, by decide +kernel, rfl, rfl, rfl, (fun h => nomatch h), rfl, by decide +kernel, q1806, trivial⟩
theorem mc5182 : CALL0 4 mq5182 := ⟨by decide, q143, ⟨by decide, by decide, by decide +kernel⟩, q1806⟩
def mq5183 : Mq := (⟨"OldWeather", "joins", "(IIIIZ)V"⟩, prog_1_method_63_code, 18, none, [])
theorem mk5183 : MX 5183 mq5183 := ⟨iX0_joins, rfl, by decide, kX0_joins, by decide +kernel, rfl, rfl, rfl, (fun h => nomatch h), rfl, by decide +kernel, q1810, trivial⟩
theorem mc5183 : CALL0 5 mq5183 := ⟨by decide, q143, ⟨by decide, by decide, by decide +kernel⟩, q1810⟩
def mq5184 : Mq := (⟨"OldWeather", "isOn", "(IIIZ)Z"⟩, prog_1_method_64_code, 8, (some (Jvm.ClassFile.FieldType.boolean)), [])
theorem mk5184 : MX 5184 mq5184 := ⟨iX0_isOn, rfl, by decide, kX0_isOn, by decide +kernel, rfl, rfl, rfl, (fun h => nomatch h), rfl, by decide +kernel, q1814, trivial⟩
theorem mc5184 : CALL0 4 mq5184 := ⟨by decide, q143, ⟨by decide, by decide, by decide +kernel⟩, q1814⟩
def mq5185 : Mq := (⟨"OldWeather", "tells", "(I)I"⟩, prog_1_method_65_code, 2, (some (Jvm.ClassFile.FieldType.int)), [])
theorem mk5185 : MX 5185 mq5185 := ⟨iX0_tells, rfl, by decide, kX0_tells, by decide +kernel, rfl, rfl, rfl, (fun h => nomatch h), rfl, by decide +kernel, q1825, trivial⟩
theorem mc5185 : CALL0 1 mq5185 := ⟨by decide, q143, ⟨by decide, by decide, by decide +kernel⟩, q1825⟩
def mq5186 : Mq := (⟨"OldWeather", "led", "(IIII)I"⟩, prog_1_method_67_code, 5, (some (Jvm.ClassFile.FieldType.int)), [])
theorem mk5186 : MX 5186 mq5186 := ⟨iX0_led, rfl, by decide, kX0_led, by decide +kernel, rfl, rfl, rfl, (fun h => nomatch h), rfl, by decide +kernel, q1829, trivial⟩
theorem mc5186 : CALL0 4 mq5186 := ⟨by decide, q143, ⟨by decide, by decide, by decide +kernel⟩, q1829⟩
def mq5187 : Mq := (⟨"OldWeather", "left", "(IIIII)I"⟩, prog_1_method_68_code, 10, (some (Jvm.ClassFile.FieldType.int)), [])
theorem mk5187 : MX 5187 mq5187 := ⟨iX0_left, rfl, by decide, kX0_left, by decide +kernel, rfl, rfl, rfl, (fun h => nomatch h), rfl, by decide +kernel, q1833, trivial⟩
theorem mc5187 : CALL0 5 mq5187 := ⟨by decide, q143, ⟨by decide, by decide, by decide +kernel⟩, q1833⟩
def mq5188 : Mq := (⟨"OldWeather", "wish", "(I)I"⟩, prog_1_method_69_code, 3, (some (Jvm.ClassFile.FieldType.int)), [])
theorem mk5188 : MX 5188 mq5188 := ⟨iX0_wish, rfl, by decide, kX0_wish, by decide +kernel, rfl, rfl, rfl, (fun h => nomatch h), rfl, by decide +kernel, q1844, trivial⟩
theorem mc5188 : CALL0 1 mq5188 := ⟨by decide, q143, ⟨by decide, by decide, by decide +kernel⟩, q1844⟩
def mq5189 : Mq := (⟨"OldWeather", "clear", "()I"⟩, prog_1_method_70_code, 2, (some (Jvm.ClassFile.FieldType.int)), [])
theorem mk5189 : MX 5189 mq5189 := ⟨iX0_clear, rfl, by decide, kX0_clear, by decide +kernel, rfl, rfl, rfl, (fun h => nomatch h), rfl, by decide +kernel, q1848, trivial⟩
theorem mc5189 : CALL0 0 mq5189 := ⟨by decide, q143, ⟨by decide, by decide, by decide +kernel⟩, q1848⟩
def mq5190 : Mq := (⟨"OldWeather", "best", "(I)I"⟩, prog_1_method_78_code, 3, (some (Jvm.ClassFile.FieldType.int)), [])
theorem mk5190 : MX 5190 mq5190 := ⟨iX0_best, rfl, by decide, kX0_best, by decide +kernel, rfl, rfl, rfl, (fun h => nomatch h), rfl, by decide +kernel, q1852, trivial⟩
theorem mc5190 : CALL0 1 mq5190 := ⟨by decide, q143, ⟨by decide, by decide, by decide +kernel⟩, q1852⟩
def mq5191 : Mq := (⟨"OldWeather", "quarrels", "(I)V"⟩, prog_1_method_72_code, 9, none, [])
theorem mk5191 : MX 5191 mq5191 := ⟨iX0_quarrels, rfl, by decide, kX0_quarrels, by decide +kernel, rfl, rfl, rfl, (fun h => nomatch h), rfl, by decide +kernel, q1856, trivial⟩
theorem mc5191 : CALL0 1 mq5191 := ⟨by decide, q143, ⟨by decide, by decide, by decide +kernel⟩, q1856⟩
def mq5192 : Mq := (⟨"OldWeather", "wishOf", "(I)I"⟩, prog_1_method_71_code, 3, (some (Jvm.ClassFile.FieldType.int)), [])
theorem mk5192 : MX 5192 mq5192 := ⟨iX0_wishOf, rfl, by decide, kX0_wishOf, by decide +kernel, rfl, rfl, rfl, (fun h => nomatch h), rfl, by decide +kernel, q1860, trivial⟩
theorem mc5192 : CALL0 1 mq5192 := ⟨by decide, q143, ⟨by decide, by decide, by decide +kernel⟩, q1860⟩
def mq5193 : Mq := (⟨"OldWeather", "areLike", "(II)Z"⟩, prog_1_method_74_code, 3, (some (Jvm.ClassFile.FieldType.boolean)), [])
theorem mk5193 : MX 5193 mq5193 := ⟨iX0_areLike, rfl, by decide, kX0_areLike, by decide +kernel, rfl, rfl, rfl, (fun h => nomatch h), rfl, by decide +kernel, q1864, trivial⟩
theorem mc5193 : CALL0 2 mq5193 := ⟨by decide, q143, ⟨by decide, by decide, by decide +kernel⟩, q1864⟩
def mq5194 : Mq := (⟨"OldWeather", "quarrel", "(IIII)Z"⟩, prog_1_method_75_code, 7, (some (Jvm.ClassFile.FieldType.boolean)), [])
theorem mk5194 : MX 5194 mq5194 := ⟨iX0_quarrel, rfl, by decide, kX0_quarrel, by decide +kernel, rfl, rfl, rfl, (fun h => nomatch h), rfl, by decide +kernel, q1868, trivial⟩
theorem mc5194 : CALL0 4 mq5194 := ⟨by decide, q143, ⟨by decide, by decide, by decide +kernel⟩, q1868⟩
def mq5195 : Mq := (⟨"OldWeather", "counts", "(IIII)V"⟩, prog_1_method_73_code, 5, none, [])
theorem mk5195 : MX 5195 mq5195 := ⟨iX0_counts_2, rfl, by decide, kX0_counts_2, by decide +kernel, rfl, rfl, rfl, (fun h => nomatch h), rfl, by decide +kernel, q1872, trivial⟩
theorem mc5195 : CALL0 4 mq5195 := ⟨by decide, q143, ⟨by decide, by decide, by decide +kernel⟩, q1872⟩
def mq5196 : Mq := (⟨"OldWeather", "tries", "(I)V"⟩, prog_1_method_77_code, 5, none, [])
theorem mk5196 : MX 5196 mq5196 := ⟨iX0_tries, rfl, by decide, kX0_tries, by decide +kernel, rfl, rfl, rfl, (fun h => nomatch h), rfl, by decide +kernel, q1876, trivial⟩
theorem mc5196 : CALL0 1 mq5196 := ⟨by decide, q143, ⟨by decide, by decide, by decide +kernel⟩, q1876⟩
def mq5197 : Mq := (⟨"OldWeather", "quarrelsOfRow", "()I"⟩, prog_1_method_76_code, 4, (some (Jvm.ClassFile.FieldType.int)), [])
theorem mk5197 : MX 5197 mq5197 := ⟨iX0_quarrelsOfRow, rfl, by decide, kX0_quarrelsOfRow, by decide +kernel, rfl, rfl, rfl, (fun h => nomatch h), rfl, by decide +kernel, q1880, trivial⟩
theorem mc5197 : CALL0 0 mq5197 := ⟨by decide, q143, ⟨by decide, by decide, by decide +kernel⟩, q1880⟩
def mq5198 : Mq := (⟨"OldWeather", "chosen", "(I)I"⟩, prog_1_method_79_code, 2, (some (Jvm.ClassFile.FieldType.int)), [])
theorem mk5198 : MX 5198 mq5198 := ⟨iX0_chosen, rfl, by decide, kX0_chosen, by decide +kernel, rfl, rfl, rfl, (fun h => nomatch h), rfl, by decide +kernel, q1885, trivial⟩
theorem mc5198 : CALL0 1 mq5198 := ⟨by decide, q143, ⟨by decide, by decide, by decide +kernel⟩, q1885⟩
def mq5199 : Mq := (⟨"OldWeather", "beside", "(IIII)I"⟩, prog_1_method_80_code, 5, (some (Jvm.ClassFile.FieldType.int)), [])
theorem mk5199 : MX 5199 mq5199 := ⟨iX0_beside, rfl, by decide, kX0_beside, by decide +kernel, rfl, rfl, rfl, (fun h => nomatch h), rfl, by decide +kernel, q1889, trivial⟩
theorem mc5199 : CALL0 4 mq5199 := ⟨by decide, q143, ⟨by decide, by decide, by decide +kernel⟩, q1889⟩
def mq5200 : Mq := (⟨"OldWeather", "judge", "(II)I"⟩, prog_1_method_81_code, 5, (some (Jvm.ClassFile.FieldType.int)), [])
theorem mk5200 : MX 5200 mq5200 := ⟨iX0_judge, rfl, by decide, kX0_judge, by decide +kernel, rfl, rfl, rfl, (fun h => nomatch h), rfl, by decide +kernel, q1893, trivial⟩
theorem mc5200 : CALL0 2 mq5200 := ⟨by decide, q143, ⟨by decide, by decide, by decide +kernel⟩, q1893⟩
def mq5201 : Mq := (⟨"OldWeather", "winter", "(IIII)I"⟩, prog_1_method_84_code, 5, (some (Jvm.ClassFile.FieldType.int)), [])
theorem mk5201 : MX 5201 mq5201 := ⟨iX0_winter, rfl, by decide, kX0_winter, by decide +kernel, rfl, rfl, rfl, (fun h => nomatch h), rfl, by decide +kernel, q1897, trivial⟩
theorem mc5201 : CALL0 4 mq5201 := ⟨by decide, q143, ⟨by decide, by decide, by decide +kernel⟩, q1897⟩
def mq5202 : Mq := (⟨"OldWeather", "isYear", "(I)Z"⟩, prog_1_method_83_code, 1, (some (Jvm.ClassFile.FieldType.boolean)), [])
theorem mk5202 : MX 5202 mq5202 := ⟨iX0_isYear, rfl, by decide, kX0_isYear, by decide +kernel, rfl, rfl, rfl, (fun h => nomatch h), rfl, by decide +kernel, q1900, trivial⟩
theorem mc5202 : CALL0 1 mq5202 := ⟨by decide, q143, ⟨by decide, by decide, by decide +kernel⟩, q1900⟩
def mq5203 : Mq := (⟨"OldWeather", "winters", "(III)V"⟩, prog_1_method_82_code, 7, none, [])
theorem mk5203 : MX 5203 mq5203 := ⟨iX0_winters, rfl, by decide, kX0_winters, by decide +kernel, rfl, rfl, rfl, (fun h => nomatch h), rfl, by decide +kernel, q1905, trivial⟩
theorem mc5203 : CALL0 3 mq5203 := ⟨by decide, q143, ⟨by decide, by decide, by decide +kernel⟩, q1905⟩
def mq5204 : Mq := (⟨"OldWeather", "rank", "(IIIIII)I"⟩, prog_1_method_85_code, 15, (some (Jvm.ClassFile.FieldType.int)), [])
theorem mk5204 : MX 5204 mq5204 := ⟨iX0_rank, rfl, by decide, kX0_rank, by decide +kernel, rfl, rfl, rfl, (fun h => nomatch h), rfl, by decide +kernel, q1909, trivial⟩
theorem mc5204 : CALL0 6 mq5204 := ⟨by decide, q143, ⟨by decide, by decide, by decide +kernel⟩, q1909⟩
def mq5205 : Mq := (⟨"OldWeather", "often", "(IIIII)I"⟩, prog_1_method_86_code, 11, (some (Jvm.ClassFile.FieldType.int)), [])
theorem mk5205 : MX 5205 mq5205 := ⟨iX0_often, rfl, by decide, kX0_often, by decide +kernel, rfl, rfl, rfl, (fun h => nomatch h), rfl, by decide +kernel, q1913, trivial⟩
theorem mc5205 : CALL0 5 mq5205 := ⟨by decide, q143, ⟨by decide, by decide, by decide +kernel⟩, q1913⟩
def mq5206 : Mq := (⟨"OldWeather", "offer", "(IIIII)I"⟩, prog_1_method_87_code, 6, (some (Jvm.ClassFile.FieldType.int)), [])
theorem mk5206 : MX 5206 mq5206 := ⟨iX0_offer, rfl, by decide, kX0_offer, by decide +kernel, rfl, rfl, rfl, (fun h => nomatch h), rfl, by decide +kernel, q1917, trivial⟩
theorem mc5206 : CALL0 5 mq5206 := ⟨by decide, q143, ⟨by decide, by decide, by decide +kernel⟩, q1917⟩
def mq5207 : Mq := (⟨"OldWeather", "plan", "(IIIIII)I"⟩, prog_1_method_90_code, 14, (some (Jvm.ClassFile.FieldType.int)), [])
theorem mk5207 : MX 5207 mq5207 := ⟨iX0_plan, rfl, by decide, kX0_plan, by decide +kernel, rfl, rfl, rfl, (fun h => nomatch h), rfl, by decide +kernel, q1921, trivial⟩
theorem mc5207 : CALL0 6 mq5207 := ⟨by decide, q143, ⟨by decide, by decide, by decide +kernel⟩, q1921⟩
def mq5208 : Mq := (⟨"OldWeather", "widthsOf", "(IIII)I"⟩, prog_1_method_89_code, 10, (some (Jvm.ClassFile.FieldType.int)), [])
theorem mk5208 : MX 5208 mq5208 := ⟨iX0_widthsOf, rfl, by decide, kX0_widthsOf, by decide +kernel, rfl, rfl, rfl, (fun h => nomatch h), rfl, by decide +kernel, q1925, trivial⟩
theorem mc5208 : CALL0 4 mq5208 := ⟨by decide, q143, ⟨by decide, by decide, by decide +kernel⟩, q1925⟩
def mq5209 : Mq := (⟨"OldWeather", "hoursOf", "(I)I"⟩, prog_1_method_88_code, 4, (some (Jvm.ClassFile.FieldType.int)), [])
theorem mk5209 : MX 5209 mq5209 := ⟨iX0_hoursOf, rfl, by decide, kX0_hoursOf, by decide +kernel, rfl, rfl, rfl, (fun h => nomatch h), rfl, by decide +kernel, q1929, trivial⟩
theorem mc5209 : CALL0 1 mq5209 := ⟨by decide, q143, ⟨by decide, by decide, by decide +kernel⟩, q1929⟩
def mq5210 : Mq := (⟨"OldWeather", "seal", "(II)I"⟩, prog_1_method_95_code, 4, (some (Jvm.ClassFile.FieldType.int)), [])
theorem mk5210 : MX 5210 mq5210 := ⟨iX0_seal, rfl, by decide, kX0_seal, by decide +kernel, rfl, rfl, rfl, (fun h => nomatch h), rfl, by decide +kernel, q1939, trivial⟩
theorem mc5210 : CALL0 2 mq5210 := ⟨by decide, q143, ⟨by decide, by decide, by decide +kernel⟩, q1939⟩
def mq5211 : Mq := (⟨"OldWeather", "isMonth", "(II)Z"⟩, prog_1_method_91_code, 2, (some (Jvm.ClassFile.FieldType.boolean)), [])
theorem mk5211 : MX 5211 mq5211 := ⟨iX0_isMonth, rfl, by decide, kX0_isMonth, by decide +kernel, rfl, rfl, rfl, (fun h => nomatch h), rfl, by decide +kernel, q1942, trivial⟩
theorem mc5211 : CALL0 2 mq5211 := ⟨by decide, q143, ⟨by decide, by decide, by decide +kernel⟩, q1942⟩
def mq5212 : Mq := (⟨"OldWeather", "sums", "(II)V"⟩, prog_1_method_94_code, 4, none, [])
theorem mk5212 : MX 5212 mq5212 := ⟨iX0_sums, rfl, by decide, kX0_sums, by decide +kernel, rfl, rfl, rfl, (fun h => nomatch h), rfl, by decide +kernel, q1946, trivial⟩
theorem mc5212 : CALL0 2 mq5212 := ⟨by decide, q143, ⟨by decide, by decide, by decide +kernel⟩, q1946⟩
def mq5213 : Mq := (⟨"OldWeather", "isIn", "(III)Z"⟩, prog_1_method_93_code, 4, (some (Jvm.ClassFile.FieldType.boolean)), [])
theorem mk5213 : MX 5213 mq5213 := ⟨iX0_isIn, rfl, by decide, kX0_isIn, by decide +kernel, rfl, rfl, rfl, (fun h => nomatch h), rfl, by decide +kernel, q1950, trivial⟩
theorem mc5213 : CALL0 3 mq5213 := ⟨by decide, q143, ⟨by decide, by decide, by decide +kernel⟩, q1950⟩
def mq5214 : Mq := (⟨"OldWeather", "monthAt", "(II)I"⟩, prog_1_method_92_code, 2, (some (Jvm.ClassFile.FieldType.int)), [])
theorem mk5214 : MX 5214 mq5214 := ⟨iX0_monthAt, rfl, by decide, kX0_monthAt, by decide +kernel, rfl, rfl, rfl, (fun h => nomatch h), rfl, by decide +kernel, q1953, trivial⟩
theorem mc5214 : CALL0 2 mq5214 := ⟨by decide, q143, ⟨by decide, by decide, by decide +kernel⟩, q1953⟩
def mq5215 : Mq := (⟨"OldWeather", "alter", "(II)I"⟩, prog_1_method_96_code, 3, (some (Jvm.ClassFile.FieldType.int)), [])
theorem mk5215 : MX 5215 mq5215 := ⟨iX0_alter, rfl, by decide, kX0_alter, by decide +kernel, rfl, rfl, rfl, (fun h => nomatch h), rfl, by decide +kernel, q1957, trivial⟩
theorem mc5215 : CALL0 2 mq5215 := ⟨by decide, q143, ⟨by decide, by decide, by decide +kernel⟩, q1957⟩
def mq5216 : Mq := (⟨"OldWeather", "found", "(II)I"⟩, prog_1_method_97_code, 10, (some (Jvm.ClassFile.FieldType.int)), [])
theorem mk5216 : MX 5216 mq5216 := ⟨iX0_found, rfl, by decide, kX0_found, by decide +kernel, rfl, rfl, rfl, (fun h => nomatch h), rfl, by decide +kernel, q1961, trivial⟩
theorem mc5216 : CALL0 2 mq5216 := ⟨by decide, q143, ⟨by decide, by decide, by decide +kernel⟩, q1961⟩
def mq5217 : Mq := (⟨"OldWeather", "count", "(I)I"⟩, prog_1_method_98_code, 2, (some (Jvm.ClassFile.FieldType.int)), [])
theorem mk5217 : MX 5217 mq5217 := ⟨iX0_count, rfl, by decide, kX0_count, by decide +kernel, rfl, rfl, rfl, (fun h => nomatch h), rfl, by decide +kernel, q1965, trivial⟩
theorem mc5217 : CALL0 1 mq5217 := ⟨by decide, q143, ⟨by decide, by decide, by decide +kernel⟩, q1965⟩
def mq5218 : Mq := (⟨"OldWeather", "status", "()I"⟩, prog_1_method_99_code, 1, (some (Jvm.ClassFile.FieldType.int)), [])
theorem mk5218 : MX 5218 mq5218 := ⟨iX0_status, rfl, by decide, kX0_status, by decide +kernel, rfl, rfl, rfl, (fun h => nomatch h), rfl, by decide +kernel, q1969, trivial⟩
theorem mc5218 : CALL0 0 mq5218 := ⟨by decide, q143, ⟨by decide, by decide, by decide +kernel⟩, q1969⟩
def mq5376 : Mq := (⟨"OldWeather$Told", "<init>", "()V"⟩, prog_26_method_1_code, 2, none, [])
theorem mk5376 : MX 5376 mq5376 := ⟨iX1_init, rfl, by decide, kX1_init, by decide +kernel, rfl, rfl, rfl, (fun _ => rfl), rfl, by decide +kernel, q204, trivial⟩
theorem mc5376 : CALL0 0 mq5376 := ⟨by decide, q144, ⟨by decide, by decide, by decide +kernel⟩, q204⟩
def mq5377 : Mq := (⟨"OldWeather$Told", "takes", "(LOldWeather$Told;)V"⟩, prog_26_method_4_code, 2, none, [])
theorem mk5377 : MX 5377 mq5377 := ⟨iX1_takes, rfl, by decide, kX1_takes, by decide +kernel, rfl, rfl, rfl, (fun h => nomatch h), rfl, by decide +kernel, q757, trivial⟩
theorem mc5377 : CALL0 1 mq5377 := ⟨by decide, q144, ⟨by decide, by decide, by decide +kernel⟩, q757⟩
def mq5378 : Mq := (⟨"OldWeather$Told", "over", "(Ljava/util/ArrayList;Ljava/util/ArrayList;)V"⟩, prog_26_method_2_code, 2, none, [])
theorem mk5378 : MX 5378 mq5378 := ⟨iX1_over, rfl, by decide, kX1_over, by decide +kernel, rfl, rfl, rfl, (fun h => nomatch h), rfl, by decide +kernel, q760, trivial⟩
theorem mc5378 : CALL0 2 mq5378 := ⟨by decide, q144, ⟨by decide, by decide, by decide +kernel⟩, q760⟩
def mq5379 : Mq := (⟨"OldWeather$Told", "rows", "([I[I)V"⟩, prog_26_method_3_code, 2, none, [])
theorem mk5379 : MX 5379 mq5379 := ⟨iX1_rows, rfl, by decide, kX1_rows, by decide +kernel, rfl, rfl, rfl, (fun h => nomatch h), rfl, by decide +kernel, q844, trivial⟩
theorem mc5379 : CALL0 2 mq5379 := ⟨by decide, q144, ⟨by decide, by decide, by decide +kernel⟩, q844⟩
def mq5632 : Mq := (⟨"OldWeather$Gauge", "<init>", "(IIIIII)V"⟩, prog_12_method_1_code, 7, none, [])
theorem mk5632 : MX 5632 mq5632 := ⟨iX10_init, rfl, by decide, kX10_init, by decide +kernel, rfl, rfl, rfl, (fun _ => rfl), rfl, by decide +kernel, q976, trivial⟩
theorem mc5632 : CALL0 6 mq5632 := ⟨by decide, q162, ⟨by decide, by decide, by decide +kernel⟩, q976⟩
def mq5633 : Mq := (⟨"OldWeather$Gauge", "kind", "()I"⟩, prog_12_method_2_code, 1, (some (Jvm.ClassFile.FieldType.int)), [])
theorem mk5633 : MX 5633 mq5633 := ⟨iX10_kind, rfl, by decide, kX10_kind, by decide +kernel, rfl, rfl, rfl, (fun h => nomatch h), rfl, by decide +kernel, q1161, trivial⟩
theorem mc5633 : CALL0 0 mq5633 := ⟨by decide, q162, ⟨by decide, by decide, by decide +kernel⟩, q1161⟩
def mq5888 : Mq := (⟨"OldWeather$Log", "<init>", "(IIIIII)V"⟩, prog_13_method_1_code, 7, none, [])
theorem mk5888 : MX 5888 mq5888 := ⟨iX11_init, rfl, by decide, kX11_init, by decide +kernel, rfl, rfl, rfl, (fun _ => rfl), rfl, by decide +kernel, q993, trivial⟩
theorem mc5888 : CALL0 6 mq5888 := ⟨by decide, q163, ⟨by decide, by decide, by decide +kernel⟩, q993⟩
def mq5889 : Mq := (⟨"OldWeather$Log", "hasDegrees", "()Z"⟩, prog_13_method_2_code, 1, (some (Jvm.ClassFile.FieldType.boolean)), [])
theorem mk5889 : MX 5889 mq5889 := ⟨iX11_hasDegrees, rfl, by decide, kX11_hasDegrees, by decide +kernel, rfl, rfl, rfl, (fun h => nomatch h), rfl, by decide +kernel, q1168, trivial⟩
theorem mc5889 : CALL0 0 mq5889 := ⟨by decide, q163, ⟨by decide, by decide, by decide +kernel⟩, q1168⟩
def mq6144 : Mq := (⟨"OldWeather$Proxy", "<init>", "(IIIIIII)V"⟩, prog_18_method_1_code, 8, none, [])
theorem mk6144 : MX 6144 mq6144 := ⟨iX12_init, rfl, by decide, kX12_init, by decide +kernel, rfl, rfl, rfl, (fun _ => rfl), rfl, by decide +kernel, q1010, trivial⟩
theorem mc6144 : CALL0 7 mq6144 := ⟨by decide, q164, ⟨by decide, by decide, by decide +kernel⟩, q1010⟩
def mq6145 : Mq := (⟨"OldWeather$Proxy", "kind", "()I"⟩, prog_18_method_2_code, 1, (some (Jvm.ClassFile.FieldType.int)), [])
theorem mk6145 : MX 6145 mq6145 := ⟨iX12_kind, rfl, by decide, kX12_kind, by decide +kernel, rfl, rfl, rfl, (fun h => nomatch h), rfl, by decide +kernel, q1175, trivial⟩
theorem mc6145 : CALL0 0 mq6145 := ⟨by decide, q164, ⟨by decide, by decide, by decide +kernel⟩, q1175⟩
def mq6400 : Mq := (⟨"OldWeather$Copied", "<init>", "(IIIIIII)V"⟩, prog_6_method_1_code, 8, none, [])
theorem mk6400 : MX 6400 mq6400 := ⟨iX13_init, rfl, by decide, kX13_init, by decide +kernel, rfl, rfl, rfl, (fun _ => rfl), rfl, by decide +kernel, q1035, trivial⟩
theorem mc6400 : CALL0 7 mq6400 := ⟨by decide, q165, ⟨by decide, by decide, by decide +kernel⟩, q1035⟩
def mq6401 : Mq := (⟨"OldWeather$Copied", "kind", "()I"⟩, prog_6_method_2_code, 1, (some (Jvm.ClassFile.FieldType.int)), [])
theorem mk6401 : MX 6401 mq6401 := ⟨iX13_kind, rfl, by decide, kX13_kind, by decide +kernel, rfl, rfl, rfl, (fun h => nomatch h), rfl, by decide +kernel, q1158, trivial⟩
theorem mc6401 : CALL0 0 mq6401 := ⟨by decide, q165, ⟨by decide, by decide, by decide +kernel⟩, q1158⟩
def mq6656 : Mq := (⟨"OldWeather$Floats", "<init>", "([BI)V"⟩, prog_10_method_1_code, 3, none, [])
theorem mk6656 : MX 6656 mq6656 := ⟨iX14_init, rfl, by decide, kX14_init, by decide +kernel, rfl, rfl, rfl, (fun _ => rfl), rfl, by decide +kernel, q1094, trivial⟩
theorem mc6656 : CALL0 2 mq6656 := ⟨by decide, q170, ⟨by decide, by decide, by decide +kernel⟩, q1094⟩
def mq6657 : Mq := (⟨"OldWeather$Floats", "isEnd", "()Z"⟩, prog_10_method_2_code, 1, (some (Jvm.ClassFile.FieldType.boolean)), [])
theorem mk6657 : MX 6657 mq6657 := ⟨iX14_isEnd, rfl, by decide, kX14_isEnd, by decide +kernel, rfl, rfl, rfl, (fun h => nomatch h), rfl, by decide +kernel, q1107, trivial⟩
theorem mc6657 : CALL0 0 mq6657 := ⟨by decide, q170, ⟨by decide, by decide, by decide +kernel⟩, q1107⟩
def mq6658 : Mq := (⟨"OldWeather$Floats", "next", "()F"⟩, prog_10_method_3_code, 3, (some (Jvm.ClassFile.FieldType.float)), [])
theorem mk6658 : MX 6658 mq6658 := ⟨iX14_next, rfl, by decide, kX14_next, by decide +kernel, rfl, rfl, rfl, (fun h => nomatch h), rfl, by decide +kernel, q1111, trivial⟩
theorem mc6658 : CALL0 0 mq6658 := ⟨by decide, q170, ⟨by decide, by decide, by decide +kernel⟩, q1111⟩
def mq6912 : Mq := (⟨"OldWeather$Reader", "<init>", "([BI)V"⟩, prog_19_method_1_code, 3, none, [])
theorem mk6912 : MX 6912 mq6912 := ⟨iX15_init, rfl, by decide, kX15_init, by decide +kernel, rfl, rfl, rfl, (fun _ => rfl), rfl, by decide +kernel, q1216, trivial⟩
theorem mc6912 : CALL0 2 mq6912 := ⟨by decide, q175, ⟨by decide, by decide, by decide +kernel⟩, q1216⟩
def mq6913 : Mq := (⟨"OldWeather$Reader", "read", "()V"⟩, prog_19_method_8_code, 1, none, [])
theorem mk6913 : MX 6913 mq6913 := ⟨iX15_read, rfl, by decide, kX15_read, by decide +kernel, rfl, rfl, rfl, (fun h => nomatch h), rfl, by decide +kernel, q1246, trivial⟩
theorem mc6913 : CALL0 0 mq6913 := ⟨by decide, q175, ⟨by decide, by decide, by decide +kernel⟩, q1246⟩
def mq6914 : Mq := (⟨"OldWeather$Reader", "next", "()V"⟩, prog_19_method_3_code, 1, none, [])
theorem mk6914 : MX 6914 mq6914 := ⟨iX15_next, rfl, by decide, kX15_next, by decide +kernel, rfl, rfl, rfl, (fun h => nomatch h), rfl, by decide +kernel, q1250, trivial⟩
theorem mc6914 : CALL0 0 mq6914 := ⟨by decide, q175, ⟨by decide, by decide, by decide +kernel⟩, q1250⟩
def mq6915 : Mq := (⟨"OldWeather$Reader", "isIn", "(III)Z"⟩, prog_19_method_2_code, 4, (some (Jvm.ClassFile.FieldType.boolean)), [])
theorem mk6915 : MX 6915 mq6915 := ⟨iX15_isIn, rfl, by decide, kX15_isIn, by decide +kernel, rfl, rfl, rfl, (fun h => nomatch h), rfl, by decide +kernel, q1254, trivial⟩
theorem mc6915 : CALL0 3 mq6915 := ⟨by decide, q175, ⟨by decide, by decide, by decide +kernel⟩, q1254⟩
def mq6916 : Mq := (⟨"OldWeather$Reader", "clause", "()V"⟩, prog_19_method_9_code, 2, none, [])
theorem mk6916 : MX 6916 mq6916 := ⟨iX15_clause, rfl, by decide, kX15_clause, by decide +kernel, rfl, rfl, rfl, (fun h => nomatch h), rfl, by decide +kernel, q1258, trivial⟩
theorem mc6916 : CALL0 0 mq6916 := ⟨by decide, q175, ⟨by decide, by decide, by decide +kernel⟩, q1258⟩
def mq6917 : Mq := (⟨"OldWeather$Reader", "takes", "(Ljava/lang/String;)Z"⟩, prog_19_method_5_code, 3, (some (Jvm.ClassFile.FieldType.boolean)), [])
theorem mk6917 : MX 6917 mq6917 := ⟨iX15_takes, rfl, by decide, kX15_takes, by decide +kernel, rfl, rfl, rfl, (fun h => nomatch h), rfl, by decide +kernel, q1283, trivial⟩
theorem mc6917 : CALL0 1 mq6917 := ⟨by decide, q175, ⟨by decide, by decide, by decide +kernel⟩, q1283⟩
def mq6918 : Mq := (⟨"OldWeather$Reader", "is", "(Ljava/lang/String;)Z"⟩, prog_19_method_4_code, 3, (some (Jvm.ClassFile.FieldType.boolean)), [])
theorem mk6918 : MX 6918 mq6918 := ⟨iX15_is, rfl, by decide, kX15_is, by decide +kernel, rfl, rfl, rfl, (fun h => nomatch h), rfl, by decide +kernel, q1287, trivial⟩
theorem mc6918 : CALL0 1 mq6918 := ⟨by decide, q175, ⟨by decide, by decide, by decide +kernel⟩, q1287⟩
def mq6919 : Mq := (⟨"OldWeather$Reader", "number", "(II)I"⟩, prog_19_method_7_code, 5, (some (Jvm.ClassFile.FieldType.int)), [])
theorem mk6919 : MX 6919 mq6919 := ⟨iX15_number, rfl, by decide, kX15_number, by decide +kernel, rfl, rfl, rfl, (fun h => nomatch h), rfl, by decide +kernel, q1337, trivial⟩
theorem mc6919 : CALL0 2 mq6919 := ⟨by decide, q175, ⟨by decide, by decide, by decide +kernel⟩, q1337⟩
def mq6920 : Mq := (⟨"OldWeather$Reader", "need", "(Ljava/lang/String;)V"⟩, prog_19_method_6_code, 2, none, [])
theorem mk6920 : MX 6920 mq6920 := ⟨iX15_need, rfl, by decide, kX15_need, by decide +kernel, rfl, rfl, rfl, (fun h => nomatch h), rfl, by decide +kernel, q1342, trivial⟩
theorem mc6920 : CALL0 1 mq6920 := ⟨by decide, q175, ⟨by decide, by decide, by decide +kernel⟩, q1342⟩
def mq6921 : Mq := (⟨"OldWeather$Reader", "head", "()LOldWeather$Clause;"⟩, prog_19_method_10_code, 3, (some ((Jvm.ClassFile.FieldType.object "OldWeather$Clause"))), [])
theorem mk6921 : MX 6921 mq6921 := ⟨iX15_head, rfl, by decide, kX15_head, by decide +kernel, rfl, rfl, rfl, (fun h => nomatch h), ⟨_, rfl, Or.inl ⟨_, rfl⟩⟩, by decide +kernel, q1382, trivial⟩
theorem mc6921 : CALL0 0 mq6921 := ⟨by decide, q175, ⟨by decide, by decide, by decide +kernel⟩, q1382⟩
def mq6922 : Mq := (⟨"OldWeather$Reader", "sum", "()LOldWeather$Sum;"⟩, prog_19_method_17_code, 3, (some ((Jvm.ClassFile.FieldType.object "OldWeather$Sum"))), [])
theorem mk6922 : MX 6922 mq6922 := ⟨iX15_sum, rfl, by decide, kX15_sum, by decide +kernel, rfl, rfl, rfl, (fun h => nomatch h), ⟨_, rfl, Or.inl ⟨_, rfl⟩⟩, by decide +kernel, q1387, trivial⟩
theorem mc6922 : CALL0 0 mq6922 := ⟨by decide, q175, ⟨by decide, by decide, by decide +kernel⟩, q1387⟩
def mq6923 : Mq := (⟨"OldWeather$Reader", "term", "()LOldWeather$Sum;"⟩, prog_19_method_18_code, 3, (some ((Jvm.ClassFile.FieldType.object "OldWeather$Sum"))), [])
theorem mk6923 : MX 6923 mq6923 := ⟨iX15_term, rfl, by decide, kX15_term, by decide +kernel, rfl, rfl, rfl, (fun h => nomatch h), ⟨_, rfl, Or.inl ⟨_, rfl⟩⟩, by decide +kernel, q1391, trivial⟩
theorem mc6923 : CALL0 0 mq6923 := ⟨by decide, q175, ⟨by decide, by decide, by decide +kernel⟩, q1391⟩
def mq6924 : Mq := (⟨"OldWeather$Reader", "part", "()LOldWeather$Sum;"⟩, prog_19_method_21_code, 3, (some ((Jvm.ClassFile.FieldType.object "OldWeather$Sum"))), [])
theorem mk6924 : MX 6924 mq6924 := ⟨iX15_part, rfl, by decide, kX15_part, by decide +kernel, rfl, rfl, rfl, (fun h => nomatch h), ⟨_, rfl, Or.inl ⟨_, rfl⟩⟩, by decide +kernel, q1395, trivial⟩
theorem mc6924 : CALL0 0 mq6924 := ⟨by decide, q175, ⟨by decide, by decide, by decide +kernel⟩, q1395⟩
def mq6925 : Mq := (⟨"OldWeather$Reader", "opens", "()V"⟩, prog_19_method_14_code, 1, none, [])
theorem mk6925 : MX 6925 mq6925 := ⟨iX15_opens, rfl, by decide, kX15_opens, by decide +kernel, rfl, rfl, rfl, (fun h => nomatch h), rfl, by decide +kernel, q1400, trivial⟩
theorem mc6925 : CALL0 0 mq6925 := ⟨by decide, q175, ⟨by decide, by decide, by decide +kernel⟩, q1400⟩
def mq6926 : Mq := (⟨"OldWeather$Reader", "leaf", "()V"⟩, prog_19_method_19_code, 1, none, [])
theorem mk6926 : MX 6926 mq6926 := ⟨iX15_leaf, rfl, by decide, kX15_leaf, by decide +kernel, rfl, rfl, rfl, (fun h => nomatch h), rfl, by decide +kernel, q1419, trivial⟩
theorem mc6926 : CALL0 0 mq6926 := ⟨by decide, q175, ⟨by decide, by decide, by decide +kernel⟩, q1419⟩
def mq6927 : Mq := (⟨"OldWeather$Reader", "field", "()I"⟩, prog_19_method_20_code, 1, (some (Jvm.ClassFile.FieldType.int)), [])
theorem mk6927 : MX 6927 mq6927 := ⟨iX15_field, rfl, by decide, kX15_field, by decide +kernel, rfl, rfl, rfl, (fun h => nomatch h), rfl, by decide +kernel, q1433, trivial⟩
theorem mc6927 : CALL0 0 mq6927 := ⟨by decide, q175, ⟨by decide, by decide, by decide +kernel⟩, q1433⟩
def mq6928 : Mq := (⟨"OldWeather$Reader", "kind", "()I"⟩, prog_19_method_11_code, 1, (some (Jvm.ClassFile.FieldType.int)), [])
theorem mk6928 : MX 6928 mq6928 := ⟨iX15_kind, rfl, by decide, kX15_kind, by decide +kernel, rfl, rfl, rfl, (fun h => nomatch h), rfl, by decide +kernel, q1477, trivial⟩
theorem mc6928 : CALL0 0 mq6928 := ⟨by decide, q175, ⟨by decide, by decide, by decide +kernel⟩, q1477⟩
def mq6929 : Mq := (⟨"OldWeather$Reader", "test", "()LOldWeather$Test;"⟩, prog_19_method_12_code, 3, (some ((Jvm.ClassFile.FieldType.object "OldWeather$Test"))), [])
theorem mk6929 : MX 6929 mq6929 := ⟨iX15_test, rfl, by decide, kX15_test, by decide +kernel, rfl, rfl, rfl, (fun h => nomatch h), ⟨_, rfl, Or.inl ⟨_, rfl⟩⟩, by decide +kernel, q1487, trivial⟩
theorem mc6929 : CALL0 0 mq6929 := ⟨by decide, q175, ⟨by decide, by decide, by decide +kernel⟩, q1487⟩
def mq6930 : Mq := (⟨"OldWeather$Reader", "both", "()LOldWeather$Test;"⟩, prog_19_method_13_code, 3, (some ((Jvm.ClassFile.FieldType.object "OldWeather$Test"))), [])
theorem mk6930 : MX 6930 mq6930 := ⟨iX15_both, rfl, by decide, kX15_both, by decide +kernel, rfl, rfl, rfl, (fun h => nomatch h), ⟨_, rfl, Or.inl ⟨_, rfl⟩⟩, by decide +kernel, q1491, trivial⟩
theorem mc6930 : CALL0 0 mq6930 := ⟨by decide, q175, ⟨by decide, by decide, by decide +kernel⟩, q1491⟩
def mq6931 : Mq := (⟨"OldWeather$Reader", "plain", "()LOldWeather$Test;"⟩, prog_19_method_15_code, 3, (some ((Jvm.ClassFile.FieldType.object "OldWeather$Test"))), [])
theorem mk6931 : MX 6931 mq6931 := ⟨iX15_plain, rfl, by decide, kX15_plain, by decide +kernel, rfl, rfl, rfl, (fun h => nomatch h), ⟨_, rfl, Or.inl ⟨_, rfl⟩⟩, by decide +kernel, q1495, trivial⟩
theorem mc6931 : CALL0 0 mq6931 := ⟨by decide, q175, ⟨by decide, by decide, by decide +kernel⟩, q1495⟩
def mq6932 : Mq := (⟨"OldWeather$Reader", "positive", "()LOldWeather$Test;"⟩, prog_19_method_16_code, 3, (some ((Jvm.ClassFile.FieldType.object "OldWeather$Test"))), [])
theorem mk6932 : MX 6932 mq6932 := ⟨iX15_positive, rfl, by decide, kX15_positive, by decide +kernel, rfl, rfl, rfl, (fun h => nomatch h), ⟨_, rfl, Or.inl ⟨_, rfl⟩⟩, by decide +kernel, q1500, trivial⟩
theorem mc6932 : CALL0 0 mq6932 := ⟨by decide, q175, ⟨by decide, by decide, by decide +kernel⟩, q1500⟩
def mq7168 : Mq := (⟨"OldWeather$Fault", "<init>", "(I)V"⟩, prog_8_method_1_code, 2, none, [])
theorem mk7168 : MX 7168 mq7168 := ⟨iX16_init, rfl, by decide, kX16_init, by decide +kernel, rfl, rfl, rfl, (fun _ => rfl), rfl, by decide +kernel, q1271, trivial⟩
theorem mc7168 : CALL0 1 mq7168 := ⟨by decide, q176, ⟨by decide, by decide, by decide +kernel⟩, q1271⟩
def mq7424 : Mq := (⟨"OldWeather$Clause", "<init>", "(III)V"⟩, prog_4_method_1_code, 4, none, [])
theorem mk7424 : MX 7424 mq7424 := ⟨iX17_init, rfl, by decide, kX17_init, by decide +kernel, rfl, rfl, rfl, (fun _ => rfl), rfl, by decide +kernel, q1347, trivial⟩
theorem mc7424 : CALL0 3 mq7424 := ⟨by decide, q179, ⟨by decide, by decide, by decide +kernel⟩, q1347⟩
def mq7425 : Mq := (⟨"OldWeather$Clause", "holds", "(LOldWeather$Setting;[J)Z"⟩, prog_4_method_2_code, 7, (some (Jvm.ClassFile.FieldType.boolean)), [(0, 19, 61, 42), (20, 60, 61, 42)])
theorem mk7425 : MX 7425 mq7425 := ⟨iX17_holds, rfl, by decide, kX17_holds, by decide +kernel, rfl, rfl, rfl, (fun h => nomatch h), rfl, by decide +kernel, q1636, ⟨⟨rfl, rfl, rfl, q1637, q369, by decide⟩, ⟨⟨rfl, rfl, rfl, q1637, q369, by decide⟩, trivial⟩⟩⟩
theorem mc7425 : CALL0 2 mq7425 := ⟨by decide, q179, ⟨by decide, by decide, by decide +kernel⟩, q1636⟩
def mq7680 : Mq := (⟨"OldWeather$Sum", "<init>", "()V"⟩, prog_24_method_1_code, 1, none, [])
theorem mk7680 : MX 7680 mq7680 := ⟨iX18_init, rfl, by decide, kX18_init, by decide +kernel, rfl, rfl, rfl, (fun _ => rfl), rfl, by decide +kernel, q1408, trivial⟩
theorem mc7680 : CALL0 0 mq7680 := ⟨by decide, q180, ⟨by decide, by decide, by decide +kernel⟩, q1408⟩
def mq7936 : Mq := (⟨"OldWeather$Turned", "<init>", "(LOldWeather$Sum;)V"⟩, prog_27_method_1_code, 2, none, [])
theorem mk7936 : MX 7936 mq7936 := ⟨iX19_init, rfl, by decide, kX19_init, by decide +kernel, rfl, rfl, rfl, (fun _ => rfl), rfl, by decide +kernel, q1405, trivial⟩
theorem mc7936 : CALL0 1 mq7936 := ⟨by decide, q181, ⟨by decide, by decide, by decide +kernel⟩, q1405⟩
def mq7937 : Mq := (⟨"OldWeather$Turned", "of", "(LOldWeather$Setting;)J"⟩, prog_27_method_2_code, 2, (some (Jvm.ClassFile.FieldType.long)), [])
theorem mk7937 : MX 7937 mq7937 := ⟨iX19_of, rfl, by decide, kX19_of, by decide +kernel, rfl, rfl, rfl, (fun h => nomatch h), rfl, by decide +kernel, q1659, trivial⟩
theorem mc7937 : CALL0 1 mq7937 := ⟨by decide, q181, ⟨by decide, by decide, by decide +kernel⟩, q1659⟩
def mq8192 : Mq := (⟨"OldWeather$Force", "<init>", "(LOldWeather;)V"⟩, prog_11_method_1_code, 2, none, [])
theorem mk8192 : MX 8192 mq8192 := ⟨iX2_init, rfl, by decide, kX2_init, by decide +kernel, rfl, rfl, rfl, (fun _ => rfl), rfl, by decide +kernel, q332, trivial⟩
theorem mc8192 : CALL0 1 mq8192 := ⟨by decide, q148, ⟨by decide, by decide, by decide +kernel⟩, q332⟩
def mq8193 : Mq := (⟨"OldWeather$Force", "looks", "(I)V"⟩, prog_11_method_2_code, 5, none, [])
theorem mk8193 : MX 8193 mq8193 := ⟨iX2_looks, rfl, by decide, kX2_looks, by decide +kernel, rfl, rfl, rfl, (fun h => nomatch h), rfl, by decide +kernel, q1585, trivial⟩
theorem mc8193 : CALL0 1 mq8193 := ⟨by decide, q148, ⟨by decide, by decide, by decide +kernel⟩, q1585⟩
def mq8194 : Mq := (⟨"OldWeather$Force", "goes", "(LOldWeather$Rules;)V"⟩, prog_11_method_3_code, 5, none, [])
theorem mk8194 : MX 8194 mq8194 := ⟨iX2_goes, rfl, by decide, kX2_goes, by decide +kernel, rfl, rfl, rfl, (fun h => nomatch h), rfl, by decide +kernel, q1592, trivial⟩
theorem mc8194 : CALL0 1 mq8194 := ⟨by decide, q148, ⟨by decide, by decide, by decide +kernel⟩, q1592⟩
def mq8448 : Mq := (⟨"OldWeather$Number", "<init>", "(I)V"⟩, prog_16_method_1_code, 2, none, [])
theorem mk8448 : MX 8448 mq8448 := ⟨iX20_init, rfl, by decide, kX20_init, by decide +kernel, rfl, rfl, rfl, (fun _ => rfl), rfl, by decide +kernel, q1424, trivial⟩
theorem mc8448 : CALL0 1 mq8448 := ⟨by decide, q182, ⟨by decide, by decide, by decide +kernel⟩, q1424⟩
def mq8449 : Mq := (⟨"OldWeather$Number", "of", "(LOldWeather$Setting;)J"⟩, prog_16_method_2_code, 2, (some (Jvm.ClassFile.FieldType.long)), [])
theorem mk8449 : MX 8449 mq8449 := ⟨iX20_of, rfl, by decide, kX20_of, by decide +kernel, rfl, rfl, rfl, (fun h => nomatch h), rfl, by decide +kernel, q1656, trivial⟩
theorem mc8449 : CALL0 1 mq8449 := ⟨by decide, q182, ⟨by decide, by decide, by decide +kernel⟩, q1656⟩
def mq8704 : Mq := (⟨"OldWeather$Field", "<init>", "(I)V"⟩, prog_9_method_1_code, 2, none, [])
theorem mk8704 : MX 8704 mq8704 := ⟨iX21_init, rfl, by decide, kX21_init, by decide +kernel, rfl, rfl, rfl, (fun _ => rfl), rfl, by decide +kernel, q1445, trivial⟩
theorem mc8704 : CALL0 1 mq8704 := ⟨by decide, q183, ⟨by decide, by decide, by decide +kernel⟩, q1445⟩
def mq8705 : Mq := (⟨"OldWeather$Field", "of", "(LOldWeather$Setting;)J"⟩, prog_9_method_2_code, 2, (some (Jvm.ClassFile.FieldType.long)), [])
theorem mk8705 : MX 8705 mq8705 := ⟨iX21_of, rfl, by decide, kX21_of, by decide +kernel, rfl, rfl, rfl, (fun h => nomatch h), rfl, by decide +kernel, q1649, trivial⟩
theorem mc8705 : CALL0 1 mq8705 := ⟨by decide, q183, ⟨by decide, by decide, by decide +kernel⟩, q1649⟩
def mq8960 : Mq := (⟨"OldWeather$Two", "<init>", "(CLOldWeather$Sum;LOldWeather$Sum;)V"⟩, prog_28_method_1_code, 4, none, [])
theorem mk8960 : MX 8960 mq8960 := ⟨iX22_init, rfl, by decide, kX22_init, by decide +kernel, rfl, rfl, rfl, (fun _ => rfl), rfl, by decide +kernel, q1457, trivial⟩
theorem mc8960 : CALL0 3 mq8960 := ⟨by decide, q184, ⟨by decide, by decide, by decide +kernel⟩, q1457⟩
def mq8961 : Mq := (⟨"OldWeather$Two", "of", "(LOldWeather$Setting;)J"⟩, prog_28_method_2_code, 8, (some (Jvm.ClassFile.FieldType.long)), [])
theorem mk8961 : MX 8961 mq8961 := ⟨iX22_of, rfl, by decide, kX22_of, by decide +kernel, rfl, rfl, rfl, (fun h => nomatch h), rfl, by decide +kernel, q1662, trivial⟩
theorem mc8961 : CALL0 1 mq8961 := ⟨by decide, q184, ⟨by decide, by decide, by decide +kernel⟩, q1662⟩
def mq9216 : Mq := (⟨"OldWeather$Test", "<init>", "()V"⟩, prog_25_method_1_code, 1, none, [])
theorem mk9216 : MX 9216 mq9216 := ⟨iX23_init, rfl, by decide, kX23_init, by decide +kernel, rfl, rfl, rfl, (fun _ => rfl), rfl, by decide +kernel, q1513, trivial⟩
theorem mc9216 : CALL0 0 mq9216 := ⟨by decide, q185, ⟨by decide, by decide, by decide +kernel⟩, q1513⟩
def mq9472 : Mq := (⟨"OldWeather$Compare", "<init>", "(CLOldWeather$Sum;LOldWeather$Sum;)V"⟩, prog_5_method_1_code, 4, none, [])
theorem mk9472 : MX 9472 mq9472 := ⟨iX24_init, rfl, by decide, kX24_init, by decide +kernel, rfl, rfl, rfl, (fun _ => rfl), rfl, by decide +kernel, q1510, trivial⟩
theorem mc9472 : CALL0 3 mq9472 := ⟨by decide, q186, ⟨by decide, by decide, by decide +kernel⟩, q1510⟩
def mq9473 : Mq := (⟨"OldWeather$Compare", "is", "(LOldWeather$Setting;)Z"⟩, prog_5_method_2_code, 6, (some (Jvm.ClassFile.FieldType.boolean)), [])
theorem mk9473 : MX 9473 mq9473 := ⟨iX24_is, rfl, by decide, kX24_is, by decide +kernel, rfl, rfl, rfl, (fun h => nomatch h), rfl, by decide +kernel, q1643, trivial⟩
theorem mc9473 : CALL0 1 mq9473 := ⟨by decide, q186, ⟨by decide, by decide, by decide +kernel⟩, q1643⟩
def mq9728 : Mq := (⟨"OldWeather$Not", "<init>", "(LOldWeather$Test;)V"⟩, prog_14_method_1_code, 2, none, [])
theorem mk9728 : MX 9728 mq9728 := ⟨iX25_init, rfl, by decide, kX25_init, by decide +kernel, rfl, rfl, rfl, (fun _ => rfl), rfl, by decide +kernel, q1529, trivial⟩
theorem mc9728 : CALL0 1 mq9728 := ⟨by decide, q187, ⟨by decide, by decide, by decide +kernel⟩, q1529⟩
def mq9729 : Mq := (⟨"OldWeather$Not", "is", "(LOldWeather$Setting;)Z"⟩, prog_14_method_2_code, 2, (some (Jvm.ClassFile.FieldType.boolean)), [])
theorem mk9729 : MX 9729 mq9729 := ⟨iX25_is, rfl, by decide, kX25_is, by decide +kernel, rfl, rfl, rfl, (fun h => nomatch h), rfl, by decide +kernel, q1669, trivial⟩
theorem mc9729 : CALL0 1 mq9729 := ⟨by decide, q187, ⟨by decide, by decide, by decide +kernel⟩, q1669⟩
def mq9984 : Mq := (⟨"OldWeather$Several", "<init>", "(Z)V"⟩, prog_23_method_1_code, 2, none, [])
theorem mk9984 : MX 9984 mq9984 := ⟨iX26_init, rfl, by decide, kX26_init, by decide +kernel, rfl, rfl, rfl, (fun _ => rfl), rfl, by decide +kernel, q1540, trivial⟩
theorem mc9984 : CALL0 1 mq9984 := ⟨by decide, q188, ⟨by decide, by decide, by decide +kernel⟩, q1540⟩
def mq9985 : Mq := (⟨"OldWeather$Several", "is", "(LOldWeather$Setting;)Z"⟩, prog_23_method_2_code, 3, (some (Jvm.ClassFile.FieldType.boolean)), [])
theorem mk9985 : MX 9985 mq9985 := ⟨iX26_is, rfl, by decide, kX26_is, by decide +kernel, rfl, rfl, rfl, (fun h => nomatch h), rfl, by decide +kernel, q1672, trivial⟩
theorem mc9985 : CALL0 1 mq9985 := ⟨by decide, q188, ⟨by decide, by decide, by decide +kernel⟩, q1672⟩
def mq10240 : Mq := (⟨"OldWeather$Rules", "<init>", "(IILjava/util/ArrayList;)V"⟩, prog_21_method_1_code, 4, none, [])
theorem mk10240 : MX 10240 mq10240 := ⟨iX27_init, rfl, by decide, kX27_init, by decide +kernel, rfl, rfl, rfl, (fun _ => rfl), rfl, by decide +kernel, q1558, trivial⟩
theorem mc10240 : CALL0 3 mq10240 := ⟨by decide, q189, ⟨by decide, by decide, by decide +kernel⟩, q1558⟩
def mq10496 : Mq := (⟨"OldWeather$Note", "<init>", "(IIIII)V"⟩, prog_15_method_1_code, 6, none, [])
theorem mk10496 : MX 10496 mq10496 := ⟨iX28_init, rfl, by decide, kX28_init, by decide +kernel, rfl, rfl, rfl, (fun _ => rfl), rfl, by decide +kernel, q1769, trivial⟩
theorem mc10496 : CALL0 5 mq10496 := ⟨by decide, q190, ⟨by decide, by decide, by decide +kernel⟩, q1769⟩
def mq10752 : Mq := (⟨"OldWeather$Bounds", "hasDegrees", "()Z"⟩, prog_2_method_1_code, 1, (some (Jvm.ClassFile.FieldType.boolean)), [])
theorem mk10752 : MX 10752 mq10752 := ⟨iX29_hasDegrees, rfl, by decide, kX29_hasDegrees, by decide +kernel, rfl, rfl, rfl, (fun h => nomatch h), rfl, by decide +kernel, q1170, trivial⟩
theorem mc10752 : CALL0 0 mq10752 := ⟨by decide, q2864, ⟨by decide, by decide, by decide +kernel⟩, q1170⟩
def mq11008 : Mq := (⟨"OldWeather$Setting", "<init>", "()V"⟩, prog_22_method_1_code, 1, none, [])
theorem mk11008 : MX 11008 mq11008 := ⟨iX3_init, rfl, by decide, kX3_init, by decide +kernel, rfl, rfl, rfl, (fun _ => rfl), rfl, by decide +kernel, q365, trivial⟩
theorem mc11008 : CALL0 0 mq11008 := ⟨by decide, q149, ⟨by decide, by decide, by decide +kernel⟩, q365⟩
def mq11009 : Mq := (⟨"OldWeather$Setting", "field", "(I)J"⟩, prog_22_method_2_code, 2, (some (Jvm.ClassFile.FieldType.long)), [])
theorem mk11009 : MX 11009 mq11009 := ⟨iX3_field, rfl, by decide, kX3_field, by decide +kernel, rfl, rfl, rfl, (fun h => nomatch h), rfl, by decide +kernel, q1653, trivial⟩
theorem mc11009 : CALL0 1 mq11009 := ⟨by decide, q149, ⟨by decide, by decide, by decide +kernel⟩, q1653⟩
def mq11264 : Mq := (⟨"OldWeather$Broken", "<init>", "()V"⟩, prog_3_method_1_code, 1, none, [])
theorem mk11264 : MX 11264 mq11264 := ⟨iX4_init, rfl, by decide, kX4_init, by decide +kernel, rfl, rfl, rfl, (fun _ => rfl), rfl, by decide +kernel, q409, trivial⟩
theorem mc11264 : CALL0 0 mq11264 := ⟨by decide, q152, ⟨by decide, by decide, by decide +kernel⟩, q409⟩
def mq11520 : Mq := (⟨"OldWeather$Pairs", "<init>", "(LOldWeather;)V"⟩, prog_17_method_1_code, 2, none, [])
theorem mk11520 : MX 11520 mq11520 := ⟨iX5_init, rfl, by decide, kX5_init, by decide +kernel, rfl, rfl, rfl, (fun _ => rfl), rfl, by decide +kernel, q466, trivial⟩
theorem mc11520 : CALL0 1 mq11520 := ⟨by decide, q153, ⟨by decide, by decide, by decide +kernel⟩, q466⟩
def mq11521 : Mq := (⟨"OldWeather$Pairs", "looks", "(I)V"⟩, prog_17_method_2_code, 4, none, [])
theorem mk11521 : MX 11521 mq11521 := ⟨iX5_looks, rfl, by decide, kX5_looks, by decide +kernel, rfl, rfl, rfl, (fun h => nomatch h), rfl, by decide +kernel, q1605, trivial⟩
theorem mc11521 : CALL0 1 mq11521 := ⟨by decide, q153, ⟨by decide, by decide, by decide +kernel⟩, q1605⟩
def mq11522 : Mq := (⟨"OldWeather$Pairs", "beside", "(II)I"⟩, prog_17_method_3_code, 9, (some (Jvm.ClassFile.FieldType.int)), [])
theorem mk11522 : MX 11522 mq11522 := ⟨iX5_beside, rfl, by decide, kX5_beside, by decide +kernel, rfl, rfl, rfl, (fun h => nomatch h), rfl, by decide +kernel, q1623, trivial⟩
theorem mc11522 : CALL0 2 mq11522 := ⟨by decide, q153, ⟨by decide, by decide, by decide +kernel⟩, q1623⟩
def mq11523 : Mq := (⟨"OldWeather$Pairs", "held", "(I)I"⟩, prog_17_method_5_code, 4, (some (Jvm.ClassFile.FieldType.int)), [])
theorem mk11523 : MX 11523 mq11523 := ⟨iX5_held, rfl, by decide, kX5_held, by decide +kernel, rfl, rfl, rfl, (fun h => nomatch h), rfl, by decide +kernel, q1682, trivial⟩
theorem mc11523 : CALL0 1 mq11523 := ⟨by decide, q153, ⟨by decide, by decide, by decide +kernel⟩, q1682⟩
def mq11524 : Mq := (⟨"OldWeather$Pairs", "end", "(IZI)J"⟩, prog_17_method_4_code, 8, (some (Jvm.ClassFile.FieldType.long)), [])
theorem mk11524 : MX 11524 mq11524 := ⟨iX5_end, rfl, by decide, kX5_end, by decide +kernel, rfl, rfl, rfl, (fun h => nomatch h), rfl, by decide +kernel, q1686, trivial⟩
theorem mc11524 : CALL0 3 mq11524 := ⟨by decide, q153, ⟨by decide, by decide, by decide +kernel⟩, q1686⟩
def mq11776 : Mq := (⟨"OldWeather$Desk", "<init>", "(LOldWeather;)V"⟩, prog_7_method_1_code, 2, none, [])
theorem mk11776 : MX 11776 mq11776 := ⟨iX6_init, rfl, by decide, kX6_init, by decide +kernel, rfl, rfl, rfl, (fun _ => rfl), rfl, by decide +kernel, q495, trivial⟩
theorem mc11776 : CALL0 1 mq11776 := ⟨by decide, q154, ⟨by decide, by decide, by decide +kernel⟩, q495⟩
def mq11777 : Mq := (⟨"OldWeather$Desk", "looks", "(I)V"⟩, prog_7_method_2_code, 4, none, [])
theorem mk11777 : MX 11777 mq11777 := ⟨iX6_looks, rfl, by decide, kX6_looks, by decide +kernel, rfl, rfl, rfl, (fun h => nomatch h), rfl, by decide +kernel, q1701, trivial⟩
theorem mc11777 : CALL0 1 mq11777 := ⟨by decide, q154, ⟨by decide, by decide, by decide +kernel⟩, q1701⟩
def mq11778 : Mq := (⟨"OldWeather$Desk", "joins", "(I)V"⟩, prog_7_method_3_code, 4, none, [])
theorem mk11778 : MX 11778 mq11778 := ⟨iX6_joins, rfl, by decide, kX6_joins, by decide +kernel, rfl, rfl, rfl, (fun h => nomatch h), rfl, by decide +kernel, q1706, trivial⟩
theorem mc11778 : CALL0 1 mq11778 := ⟨by decide, q154, ⟨by decide, by decide, by decide +kernel⟩, q1706⟩
def mq11779 : Mq := (⟨"OldWeather$Desk", "sharesOf", "(III)I"⟩, prog_7_method_5_code, 7, (some (Jvm.ClassFile.FieldType.int)), [])
theorem mk11779 : MX 11779 mq11779 := ⟨iX6_sharesOf, rfl, by decide, kX6_sharesOf, by decide +kernel, rfl, rfl, rfl, (fun h => nomatch h), rfl, by decide +kernel, q1711, trivial⟩
theorem mc11779 : CALL0 3 mq11779 := ⟨by decide, q154, ⟨by decide, by decide, by decide +kernel⟩, q1711⟩
def mq11780 : Mq := (⟨"OldWeather$Desk", "merges", "(II)V"⟩, prog_7_method_4_code, 4, none, [])
theorem mk11780 : MX 11780 mq11780 := ⟨iX6_merges, rfl, by decide, kX6_merges, by decide +kernel, rfl, rfl, rfl, (fun h => nomatch h), rfl, by decide +kernel, q1720, trivial⟩
theorem mc11780 : CALL0 2 mq11780 := ⟨by decide, q154, ⟨by decide, by decide, by decide +kernel⟩, q1720⟩
def mq11781 : Mq := (⟨"OldWeather$Desk", "isStopped", "(I)Z"⟩, prog_7_method_6_code, 3, (some (Jvm.ClassFile.FieldType.boolean)), [])
theorem mk11781 : MX 11781 mq11781 := ⟨iX6_isStopped, rfl, by decide, kX6_isStopped, by decide +kernel, rfl, rfl, rfl, (fun h => nomatch h), rfl, by decide +kernel, q1755, trivial⟩
theorem mc11781 : CALL0 1 mq11781 := ⟨by decide, q154, ⟨by decide, by decide, by decide +kernel⟩, q1755⟩
def mq11782 : Mq := (⟨"OldWeather$Desk", "isTold", "(II)Z"⟩, prog_7_method_7_code, 6, (some (Jvm.ClassFile.FieldType.boolean)), [])
theorem mk11782 : MX 11782 mq11782 := ⟨iX6_isTold, rfl, by decide, kX6_isTold, by decide +kernel, rfl, rfl, rfl, (fun h => nomatch h), rfl, by decide +kernel, q1760, trivial⟩
theorem mc11782 : CALL0 2 mq11782 := ⟨by decide, q154, ⟨by decide, by decide, by decide +kernel⟩, q1760⟩
def mq11783 : Mq := (⟨"OldWeather$Desk", "isJoined", "(I)Z"⟩, prog_7_method_8_code, 2, (some (Jvm.ClassFile.FieldType.boolean)), [])
theorem mk11783 : MX 11783 mq11783 := ⟨iX6_isJoined, rfl, by decide, kX6_isJoined, by decide +kernel, rfl, rfl, rfl, (fun h => nomatch h), rfl, by decide +kernel, q1837, trivial⟩
theorem mc11783 : CALL0 1 mq11783 := ⟨by decide, q154, ⟨by decide, by decide, by decide +kernel⟩, q1837⟩
def mq12032 : Mq := (⟨"OldWeatherModel", "<init>", "()V"⟩, prog_31_method_1_code, 1, none, [])
theorem mk12032 : MX 12032 mq12032 := ⟨iX7_init, rfl, by decide, kX7_init, by decide +kernel, rfl, rfl, rfl, (fun _ => rfl), rfl, by decide +kernel, q1974, trivial⟩
theorem mc12032 : CALL0 0 mq12032 := ⟨by decide, q155, ⟨by decide, by decide, by decide +kernel⟩, q1974⟩
def mq12033 : Mq := (⟨"OldWeatherModel", "image", "(I)I"⟩, prog_31_method_8_code, 3, (some (Jvm.ClassFile.FieldType.int)), [])
theorem mk12033 : MX 12033 mq12033 := ⟨iX7_image, rfl, by decide, kX7_image, by decide +kernel, rfl, rfl, rfl, (fun h => nomatch h), rfl, by decide +kernel, q2231, trivial⟩
theorem mc12033 : CALL0 1 mq12033 := ⟨by decide, q155, ⟨by decide, by decide, by decide +kernel⟩, q2231⟩
def mq12034 : Mq := (⟨"OldWeatherModel", "in", "(JJJ)Z"⟩, prog_31_method_3_code, 6, (some (Jvm.ClassFile.FieldType.boolean)), [])
theorem mk12034 : MX 12034 mq12034 := ⟨iX7_in, rfl, by decide, kX7_in, by decide +kernel, rfl, rfl, rfl, (fun h => nomatch h), rfl, by decide +kernel, q2235, trivial⟩
theorem mc12034 : CALL0 3 mq12034 := ⟨by decide, q155, ⟨by decide, by decide, by decide +kernel⟩, q2235⟩
def mq12035 : Mq := (⟨"OldWeatherModel", "told", "(I)I"⟩, prog_31_method_4_code, 2, (some (Jvm.ClassFile.FieldType.int)), [])
theorem mk12035 : MX 12035 mq12035 := ⟨iX7_told, rfl, by decide, kX7_told, by decide +kernel, rfl, rfl, rfl, (fun h => nomatch h), rfl, by decide +kernel, q2239, trivial⟩
theorem mc12035 : CALL0 1 mq12035 := ⟨by decide, q155, ⟨by decide, by decide, by decide +kernel⟩, q2239⟩
def mq12036 : Mq := (⟨"OldWeatherModel", "back", "(I)I"⟩, prog_31_method_9_code, 3, (some (Jvm.ClassFile.FieldType.int)), [])
theorem mk12036 : MX 12036 mq12036 := ⟨iX7_back, rfl, by decide, kX7_back, by decide +kernel, rfl, rfl, rfl, (fun h => nomatch h), rfl, by decide +kernel, q2243, trivial⟩
theorem mc12036 : CALL0 1 mq12036 := ⟨by decide, q155, ⟨by decide, by decide, by decide +kernel⟩, q2243⟩
def mq12037 : Mq := (⟨"OldWeatherModel", "day", "(IIII)I"⟩, prog_31_method_14_code, 6, (some (Jvm.ClassFile.FieldType.int)), [])
theorem mk12037 : MX 12037 mq12037 := ⟨iX7_day, rfl, by decide, kX7_day, by decide +kernel, rfl, rfl, rfl, (fun h => nomatch h), rfl, by decide +kernel, q2247, trivial⟩
theorem mc12037 : CALL0 4 mq12037 := ⟨by decide, q155, ⟨by decide, by decide, by decide +kernel⟩, q2247⟩
def mq12038 : Mq := (⟨"OldWeatherModel", "isDate", "(IIII)Z"⟩, prog_31_method_12_code, 4, (some (Jvm.ClassFile.FieldType.boolean)), [])
theorem mk12038 : MX 12038 mq12038 := ⟨iX7_isDate, rfl, by decide, kX7_isDate, by decide +kernel, rfl, rfl, rfl, (fun h => nomatch h), rfl, by decide +kernel, q2250, trivial⟩
theorem mc12038 : CALL0 4 mq12038 := ⟨by decide, q155, ⟨by decide, by decide, by decide +kernel⟩, q2250⟩
def mq12039 : Mq := (⟨"OldWeatherModel", "monthLong", "(III)I"⟩, prog_31_method_11_code, 3, (some (Jvm.ClassFile.FieldType.int)), [])
theorem mk12039 : MX 12039 mq12039 := ⟨iX7_monthLong, rfl, by decide, kX7_monthLong, by decide +kernel, rfl, rfl, rfl, (fun h => nomatch h), rfl, by decide +kernel, q2256, trivial⟩
theorem mc12039 : CALL0 3 mq12039 := ⟨by decide, q155, ⟨by decide, by decide, by decide +kernel⟩, q2256⟩
def mq12040 : Mq := (⟨"OldWeatherModel", "isLong", "(II)Z"⟩, prog_31_method_10_code, 2, (some (Jvm.ClassFile.FieldType.boolean)), [])
theorem mk12040 : MX 12040 mq12040 := ⟨iX7_isLong, rfl, by decide, kX7_isLong, by decide +kernel, rfl, rfl, rfl, (fun h => nomatch h), rfl, by decide +kernel, q2259, trivial⟩
theorem mc12040 : CALL0 2 mq12040 := ⟨by decide, q155, ⟨by decide, by decide, by decide +kernel⟩, q2259⟩
def mq12041 : Mq := (⟨"OldWeatherModel", "dayOf", "(IIII)I"⟩, prog_31_method_13_code, 6, (some (Jvm.ClassFile.FieldType.int)), [])
theorem mk12041 : MX 12041 mq12041 := ⟨iX7_dayOf, rfl, by decide, kX7_dayOf, by decide +kernel, rfl, rfl, rfl, (fun h => nomatch h), rfl, by decide +kernel, q2262, trivial⟩
theorem mc12041 : CALL0 4 mq12041 := ⟨by decide, q155, ⟨by decide, by decide, by decide +kernel⟩, q2262⟩
def mq12042 : Mq := (⟨"OldWeatherModel", "isDay", "(I)Z"⟩, prog_31_method_6_code, 1, (some (Jvm.ClassFile.FieldType.boolean)), [])
theorem mk12042 : MX 12042 mq12042 := ⟨iX7_isDay, rfl, by decide, kX7_isDay, by decide +kernel, rfl, rfl, rfl, (fun h => nomatch h), rfl, by decide +kernel, q2265, trivial⟩
theorem mc12042 : CALL0 1 mq12042 := ⟨by decide, q155, ⟨by decide, by decide, by decide +kernel⟩, q2265⟩
def mq12043 : Mq := (⟨"OldWeatherModel", "date", "(II)I"⟩, prog_31_method_16_code, 3, (some (Jvm.ClassFile.FieldType.int)), [])
theorem mk12043 : MX 12043 mq12043 := ⟨iX7_date, rfl, by decide, kX7_date, by decide +kernel, rfl, rfl, rfl, (fun h => nomatch h), rfl, by decide +kernel, q2270, trivial⟩
theorem mc12043 : CALL0 2 mq12043 := ⟨by decide, q155, ⟨by decide, by decide, by decide +kernel⟩, q2270⟩
def mq12044 : Mq := (⟨"OldWeatherModel", "findDate", "(II)V"⟩, prog_31_method_15_code, 4, none, [])
theorem mk12044 : MX 12044 mq12044 := ⟨iX7_findDate, rfl, by decide, kX7_findDate, by decide +kernel, rfl, rfl, rfl, (fun h => nomatch h), rfl, by decide +kernel, q2274, trivial⟩
theorem mc12044 : CALL0 2 mq12044 := ⟨by decide, q155, ⟨by decide, by decide, by decide +kernel⟩, q2274⟩
def mq12045 : Mq := (⟨"OldWeatherModel", "place", "(I)I"⟩, prog_31_method_19_code, 4, (some (Jvm.ClassFile.FieldType.int)), [])
theorem mk12045 : MX 12045 mq12045 := ⟨iX7_place, rfl, by decide, kX7_place, by decide +kernel, rfl, rfl, rfl, (fun h => nomatch h), rfl, by decide +kernel, q2278, trivial⟩
theorem mc12045 : CALL0 1 mq12045 := ⟨by decide, q155, ⟨by decide, by decide, by decide +kernel⟩, q2278⟩
def mq12046 : Mq := (⟨"OldWeatherModel", "placeAt", "(I)I"⟩, prog_31_method_18_code, 1, (some (Jvm.ClassFile.FieldType.int)), [])
theorem mk12046 : MX 12046 mq12046 := ⟨iX7_placeAt, rfl, by decide, kX7_placeAt, by decide +kernel, rfl, rfl, rfl, (fun h => nomatch h), rfl, by decide +kernel, q2282, trivial⟩
theorem mc12046 : CALL0 1 mq12046 := ⟨by decide, q155, ⟨by decide, by decide, by decide +kernel⟩, q2282⟩
def mq12047 : Mq := (⟨"OldWeatherModel", "season", "(IIII)I"⟩, prog_31_method_20_code, 5, (some (Jvm.ClassFile.FieldType.int)), [])
theorem mk12047 : MX 12047 mq12047 := ⟨iX7_season, rfl, by decide, kX7_season, by decide +kernel, rfl, rfl, rfl, (fun h => nomatch h), rfl, by decide +kernel, q2286, trivial⟩
theorem mc12047 : CALL0 4 mq12047 := ⟨by decide, q155, ⟨by decide, by decide, by decide +kernel⟩, q2286⟩
def mq12048 : Mq := (⟨"OldWeatherModel", "isPlace", "(I)Z"⟩, prog_31_method_17_code, 2, (some (Jvm.ClassFile.FieldType.boolean)), [])
theorem mk12048 : MX 12048 mq12048 := ⟨iX7_isPlace, rfl, by decide, kX7_isPlace, by decide +kernel, rfl, rfl, rfl, (fun h => nomatch h), rfl, by decide +kernel, q2293, trivial⟩
theorem mc12048 : CALL0 1 mq12048 := ⟨by decide, q155, ⟨by decide, by decide, by decide +kernel⟩, q2293⟩
def mq12049 : Mq := (⟨"OldWeatherModel", "like", "(III)I"⟩, prog_31_method_21_code, 4, (some (Jvm.ClassFile.FieldType.int)), [])
theorem mk12049 : MX 12049 mq12049 := ⟨iX7_like, rfl, by decide, kX7_like, by decide +kernel, rfl, rfl, rfl, (fun h => nomatch h), rfl, by decide +kernel, q2297, trivial⟩
theorem mc12049 : CALL0 3 mq12049 := ⟨by decide, q155, ⟨by decide, by decide, by decide +kernel⟩, q2297⟩
def mq12050 : Mq := (⟨"OldWeatherModel", "source", "(II)I"⟩, prog_31_method_26_code, 3, (some (Jvm.ClassFile.FieldType.int)), [])
theorem mk12050 : MX 12050 mq12050 := ⟨iX7_source, rfl, by decide, kX7_source, by decide +kernel, rfl, rfl, rfl, (fun h => nomatch h), rfl, by decide +kernel, q2302, trivial⟩
theorem mc12050 : CALL0 2 mq12050 := ⟨by decide, q155, ⟨by decide, by decide, by decide +kernel⟩, q2302⟩
def mq12051 : Mq := (⟨"OldWeatherModel", "addFour", "(IIIII)V"⟩, prog_31_method_7_code, 6, none, [])
theorem mk12051 : MX 12051 mq12051 := ⟨iX7_addFour, rfl, by decide, kX7_addFour, by decide +kernel, rfl, rfl, rfl, (fun h => nomatch h), rfl, by decide +kernel, q2307, trivial⟩
theorem mc12051 : CALL0 5 mq12051 := ⟨by decide, q155, ⟨by decide, by decide, by decide +kernel⟩, q2307⟩
def mq12052 : Mq := (⟨"OldWeatherModel", "turn", "(II)I"⟩, prog_31_method_27_code, 3, (some (Jvm.ClassFile.FieldType.int)), [])
theorem mk12052 : MX 12052 mq12052 := ⟨iX7_turn, rfl, by decide, kX7_turn, by decide +kernel, rfl, rfl, rfl, (fun h => nomatch h), rfl, by decide +kernel, q2311, trivial⟩
theorem mc12052 : CALL0 2 mq12052 := ⟨by decide, q155, ⟨by decide, by decide, by decide +kernel⟩, q2311⟩
def mq12053 : Mq := (⟨"OldWeatherModel", "isSource", "(I)Z"⟩, prog_31_method_23_code, 2, (some (Jvm.ClassFile.FieldType.boolean)), [])
theorem mk12053 : MX 12053 mq12053 := ⟨iX7_isSource, rfl, by decide, kX7_isSource, by decide +kernel, rfl, rfl, rfl, (fun h => nomatch h), rfl, by decide +kernel, q2316, trivial⟩
theorem mc12053 : CALL0 1 mq12053 := ⟨by decide, q155, ⟨by decide, by decide, by decide +kernel⟩, q2316⟩
def mq12054 : Mq := (⟨"OldWeatherModel", "stopped", "(I)I"⟩, prog_31_method_28_code, 2, (some (Jvm.ClassFile.FieldType.int)), [])
theorem mk12054 : MX 12054 mq12054 := ⟨iX7_stopped, rfl, by decide, kX7_stopped, by decide +kernel, rfl, rfl, rfl, (fun h => nomatch h), rfl, by decide +kernel, q2320, trivial⟩
theorem mc12054 : CALL0 1 mq12054 := ⟨by decide, q155, ⟨by decide, by decide, by decide +kernel⟩, q2320⟩
def mq12055 : Mq := (⟨"OldWeatherModel", "word", "(IIIIII)I"⟩, prog_31_method_35_code, 7, (some (Jvm.ClassFile.FieldType.int)), [])
theorem mk12055 : MX 12055 mq12055 := ⟨iX7_word, rfl, by decide, kX7_word, by decide +kernel, rfl, rfl, rfl, (fun h => nomatch h), rfl, by decide +kernel, q2324, trivial⟩
theorem mc12055 : CALL0 6 mq12055 := ⟨by decide, q155, ⟨by decide, by decide, by decide +kernel⟩, q2324⟩
def mq12056 : Mq := (⟨"OldWeatherModel", "tell", "(IIIIIIZII)I"⟩, prog_31_method_34_code, 11, (some (Jvm.ClassFile.FieldType.int)), [])
theorem mk12056 : MX 12056 mq12056 := ⟨iX7_tell, rfl, by decide, kX7_tell, by decide +kernel, rfl, rfl, rfl, (fun h => nomatch h), rfl, by decide +kernel, q2329, trivial⟩
theorem mc12056 : CALL0 9 mq12056 := ⟨by decide, q155, ⟨by decide, by decide, by decide +kernel⟩, q2329⟩
def mq12057 : Mq := (⟨"OldWeatherModel", "isKnown", "(I)Z"⟩, prog_31_method_5_code, 1, (some (Jvm.ClassFile.FieldType.boolean)), [])
theorem mk12057 : MX 12057 mq12057 := ⟨iX7_isKnown, rfl, by decide, kX7_isKnown, by decide +kernel, rfl, rfl, rfl, (fun h => nomatch h), rfl, by decide +kernel, q2332, trivial⟩
theorem mc12057 : CALL0 1 mq12057 := ⟨by decide, q155, ⟨by decide, by decide, by decide +kernel⟩, q2332⟩
def mq12058 : Mq := (⟨"OldWeatherModel", "isReading", "(I)Z"⟩, prog_31_method_29_code, 2, (some (Jvm.ClassFile.FieldType.boolean)), [])
theorem mk12058 : MX 12058 mq12058 := ⟨iX7_isReading, rfl, by decide, kX7_isReading, by decide +kernel, rfl, rfl, rfl, (fun h => nomatch h), rfl, by decide +kernel, q2337, trivial⟩
theorem mc12058 : CALL0 1 mq12058 := ⟨by decide, q155, ⟨by decide, by decide, by decide +kernel⟩, q2337⟩
def mq12059 : Mq := (⟨"OldWeatherModel", "keep", "(IIIIIIII)I"⟩, prog_31_method_33_code, 10, (some (Jvm.ClassFile.FieldType.int)), [])
theorem mk12059 : MX 12059 mq12059 := ⟨iX7_keep, rfl, by decide, kX7_keep, by decide +kernel, rfl, rfl, rfl, (fun h => nomatch h), rfl, by decide +kernel, q2341, trivial⟩
theorem mc12059 : CALL0 8 mq12059 := ⟨by decide, q155, ⟨by decide, by decide, by decide +kernel⟩, q2341⟩
def mq12060 : Mq := (⟨"OldWeatherModel", "gauge", "(IIIIII)I"⟩, prog_31_method_36_code, 7, (some (Jvm.ClassFile.FieldType.int)), [])
theorem mk12060 : MX 12060 mq12060 := ⟨iX7_gauge, rfl, by decide, kX7_gauge, by decide +kernel, rfl, rfl, rfl, (fun h => nomatch h), rfl, by decide +kernel, q2345, trivial⟩
theorem mc12060 : CALL0 6 mq12060 := ⟨by decide, q155, ⟨by decide, by decide, by decide +kernel⟩, q2345⟩
def mq12061 : Mq := (⟨"OldWeatherModel", "log", "(IIIIII)I"⟩, prog_31_method_37_code, 7, (some (Jvm.ClassFile.FieldType.int)), [])
theorem mk12061 : MX 12061 mq12061 := ⟨iX7_log, rfl, by decide, kX7_log, by decide +kernel, rfl, rfl, rfl, (fun h => nomatch h), rfl, by decide +kernel, q2349, trivial⟩
theorem mc12061 : CALL0 6 mq12061 := ⟨by decide, q155, ⟨by decide, by decide, by decide +kernel⟩, q2349⟩
def mq12062 : Mq := (⟨"OldWeatherModel", "proxy", "(IIIIIII)I"⟩, prog_31_method_38_code, 8, (some (Jvm.ClassFile.FieldType.int)), [])
theorem mk12062 : MX 12062 mq12062 := ⟨iX7_proxy, rfl, by decide, kX7_proxy, by decide +kernel, rfl, rfl, rfl, (fun h => nomatch h), rfl, by decide +kernel, q2353, trivial⟩
theorem mc12062 : CALL0 7 mq12062 := ⟨by decide, q155, ⟨by decide, by decide, by decide +kernel⟩, q2353⟩
def mq12063 : Mq := (⟨"OldWeatherModel", "copy", "(IIIIII)I"⟩, prog_31_method_39_code, 7, (some (Jvm.ClassFile.FieldType.int)), [])
theorem mk12063 : MX 12063 mq12063 := ⟨iX7_copy, rfl, by decide, kX7_copy, by decide +kernel, rfl, rfl, rfl, (fun h => nomatch h), rfl, by decide +kernel, q2359, trivial⟩
theorem mc12063 : CALL0 6 mq12063 := ⟨by decide, q155, ⟨by decide, by decide, by decide +kernel⟩, q2359⟩
def mq12064 : Mq := (⟨"OldWeatherModel", "of", "(II)I"⟩, prog_31_method_44_code, 3, (some (Jvm.ClassFile.FieldType.int)), [])
theorem mk12064 : MX 12064 mq12064 := ⟨iX7_of, rfl, by decide, kX7_of, by decide +kernel, rfl, rfl, rfl, (fun h => nomatch h), rfl, by decide +kernel, q2363, trivial⟩
theorem mc12064 : CALL0 2 mq12064 := ⟨by decide, q155, ⟨by decide, by decide, by decide +kernel⟩, q2363⟩
def mq12065 : Mq := (⟨"OldWeatherModel", "findDays", "(I)V"⟩, prog_31_method_40_code, 6, none, [])
theorem mk12065 : MX 12065 mq12065 := ⟨iX7_findDays, rfl, by decide, kX7_findDays, by decide +kernel, rfl, rfl, rfl, (fun h => nomatch h), rfl, by decide +kernel, q2369, trivial⟩
theorem mc12065 : CALL0 1 mq12065 := ⟨by decide, q155, ⟨by decide, by decide, by decide +kernel⟩, q2369⟩
def mq12066 : Mq := (⟨"OldWeatherModel", "sourceOf", "(I)I"⟩, prog_31_method_31_code, 2, (some (Jvm.ClassFile.FieldType.int)), [])
theorem mk12066 : MX 12066 mq12066 := ⟨iX7_sourceOf, rfl, by decide, kX7_sourceOf, by decide +kernel, rfl, rfl, rfl, (fun h => nomatch h), rfl, by decide +kernel, q2373, trivial⟩
theorem mc12066 : CALL0 1 mq12066 := ⟨by decide, q155, ⟨by decide, by decide, by decide +kernel⟩, q2373⟩
def mq12067 : Mq := (⟨"OldWeatherModel", "get", "(II)I"⟩, prog_31_method_30_code, 3, (some (Jvm.ClassFile.FieldType.int)), [])
theorem mk12067 : MX 12067 mq12067 := ⟨iX7_get, rfl, by decide, kX7_get, by decide +kernel, rfl, rfl, rfl, (fun h => nomatch h), rfl, by decide +kernel, q2377, trivial⟩
theorem mc12067 : CALL0 2 mq12067 := ⟨by decide, q155, ⟨by decide, by decide, by decide +kernel⟩, q2377⟩
def mq12068 : Mq := (⟨"OldWeatherModel", "as", "(II)I"⟩, prog_31_method_45_code, 4, (some (Jvm.ClassFile.FieldType.int)), [])
theorem mk12068 : MX 12068 mq12068 := ⟨iX7_as, rfl, by decide, kX7_as, by decide +kernel, rfl, rfl, rfl, (fun h => nomatch h), rfl, by decide +kernel, q2381, trivial⟩
theorem mc12068 : CALL0 2 mq12068 := ⟨by decide, q155, ⟨by decide, by decide, by decide +kernel⟩, q2381⟩
def mq12069 : Mq := (⟨"OldWeatherModel", "strike", "(II)I"⟩, prog_31_method_46_code, 3, (some (Jvm.ClassFile.FieldType.int)), [])
theorem mk12069 : MX 12069 mq12069 := ⟨iX7_strike, rfl, by decide, kX7_strike, by decide +kernel, rfl, rfl, rfl, (fun h => nomatch h), rfl, by decide +kernel, q2386, trivial⟩
theorem mc12069 : CALL0 2 mq12069 := ⟨by decide, q155, ⟨by decide, by decide, by decide +kernel⟩, q2386⟩
def mq12070 : Mq := (⟨"OldWeatherModel", "row", "(IIIIII)I"⟩, prog_31_method_49_code, 12, (some (Jvm.ClassFile.FieldType.int)), [])
theorem mk12070 : MX 12070 mq12070 := ⟨iX7_row, rfl, by decide, kX7_row, by decide +kernel, rfl, rfl, rfl, (fun h => nomatch h), rfl, by decide +kernel, q2390, trivial⟩
theorem mc12070 : CALL0 6 mq12070 := ⟨by decide, q155, ⟨by decide, by decide, by decide +kernel⟩, q2390⟩
def mq12071 : Mq := (⟨"OldWeatherModel", "bitsAt", "(I)I"⟩, prog_31_method_48_code, 2, (some (Jvm.ClassFile.FieldType.int)), [])
theorem mk12071 : MX 12071 mq12071 := ⟨iX7_bitsAt, rfl, by decide, kX7_bitsAt, by decide +kernel, rfl, rfl, rfl, (fun h => nomatch h), rfl, by decide +kernel, q2394, trivial⟩
theorem mc12071 : CALL0 1 mq12071 := ⟨by decide, q155, ⟨by decide, by decide, by decide +kernel⟩, q2394⟩
def mq12072 : Mq := (⟨"OldWeatherModel", "degreesOf", "(I)I"⟩, prog_31_method_47_code, 7, (some (Jvm.ClassFile.FieldType.int)), [])
theorem mk12072 : MX 12072 mq12072 := ⟨iX7_degreesOf, rfl, by decide, kX7_degreesOf, by decide +kernel, rfl, rfl, rfl, (fun h => nomatch h), rfl, by decide +kernel, q2397, trivial⟩
theorem mc12072 : CALL0 1 mq12072 := ⟨by decide, q155, ⟨by decide, by decide, by decide +kernel⟩, q2397⟩
def mq12073 : Mq := (⟨"OldWeatherModel", "dayOn", "(I)V"⟩, prog_31_method_50_code, 2, none, [])
theorem mk12073 : MX 12073 mq12073 := ⟨iX7_dayOn, rfl, by decide, kX7_dayOn, by decide +kernel, rfl, rfl, rfl, (fun h => nomatch h), rfl, by decide +kernel, q2404, trivial⟩
theorem mc12073 : CALL0 1 mq12073 := ⟨by decide, q155, ⟨by decide, by decide, by decide +kernel⟩, q2404⟩
def mq12074 : Mq := (⟨"OldWeatherModel", "feed", "(IIIII)I"⟩, prog_31_method_52_code, 6, (some (Jvm.ClassFile.FieldType.int)), [])
theorem mk12074 : MX 12074 mq12074 := ⟨iX7_feed, rfl, by decide, kX7_feed, by decide +kernel, rfl, rfl, rfl, (fun h => nomatch h), rfl, by decide +kernel, q2408, trivial⟩
theorem mc12074 : CALL0 5 mq12074 := ⟨by decide, q155, ⟨by decide, by decide, by decide +kernel⟩, q2408⟩
def mq12075 : Mq := (⟨"OldWeatherModel", "four", "(I)V"⟩, prog_31_method_51_code, 3, none, [])
theorem mk12075 : MX 12075 mq12075 := ⟨iX7_four, rfl, by decide, kX7_four, by decide +kernel, rfl, rfl, rfl, (fun h => nomatch h), rfl, by decide +kernel, q2412, trivial⟩
theorem mc12075 : CALL0 1 mq12075 := ⟨by decide, q155, ⟨by decide, by decide, by decide +kernel⟩, q2412⟩
def mq12076 : Mq := (⟨"OldWeatherModel", "end", "(I)I"⟩, prog_31_method_53_code, 2, (some (Jvm.ClassFile.FieldType.int)), [])
theorem mk12076 : MX 12076 mq12076 := ⟨iX7_end, rfl, by decide, kX7_end, by decide +kernel, rfl, rfl, rfl, (fun h => nomatch h), rfl, by decide +kernel, q2416, trivial⟩
theorem mc12076 : CALL0 1 mq12076 := ⟨by decide, q155, ⟨by decide, by decide, by decide +kernel⟩, q2416⟩
def mq12077 : Mq := (⟨"OldWeatherModel", "fault", "()I"⟩, prog_31_method_62_code, 1, (some (Jvm.ClassFile.FieldType.int)), [])
theorem mk12077 : MX 12077 mq12077 := ⟨iX7_fault, rfl, by decide, kX7_fault, by decide +kernel, rfl, rfl, rfl, (fun h => nomatch h), rfl, by decide +kernel, q2420, trivial⟩
theorem mc12077 : CALL0 0 mq12077 := ⟨by decide, q155, ⟨by decide, by decide, by decide +kernel⟩, q2420⟩
def mq12078 : Mq := (⟨"OldWeatherModel", "rules", "(I)I"⟩, prog_31_method_81_code, 4, (some (Jvm.ClassFile.FieldType.int)), [])
theorem mk12078 : MX 12078 mq12078 := ⟨iX7_rules, rfl, by decide, kX7_rules, by decide +kernel, rfl, rfl, rfl, (fun h => nomatch h), rfl, by decide +kernel, q2424, trivial⟩
theorem mc12078 : CALL0 1 mq12078 := ⟨by decide, q155, ⟨by decide, by decide, by decide +kernel⟩, q2424⟩
def mq12079 : Mq := (⟨"OldWeatherModel", "begin", "()V"⟩, prog_31_method_56_code, 1, none, [])
theorem mk12079 : MX 12079 mq12079 := ⟨iX7_begin, rfl, by decide, kX7_begin, by decide +kernel, rfl, rfl, rfl, (fun h => nomatch h), rfl, by decide +kernel, q2428, trivial⟩
theorem mc12079 : CALL0 0 mq12079 := ⟨by decide, q155, ⟨by decide, by decide, by decide +kernel⟩, q2428⟩
def mq12080 : Mq := (⟨"OldWeatherModel", "next", "()V"⟩, prog_31_method_57_code, 1, none, [])
theorem mk12080 : MX 12080 mq12080 := ⟨iX7_next, rfl, by decide, kX7_next, by decide +kernel, rfl, rfl, rfl, (fun h => nomatch h), rfl, by decide +kernel, q2432, trivial⟩
theorem mc12080 : CALL0 0 mq12080 := ⟨by decide, q155, ⟨by decide, by decide, by decide +kernel⟩, q2432⟩
def mq12081 : Mq := (⟨"OldWeatherModel", "isSmall", "(I)Z"⟩, prog_31_method_54_code, 1, (some (Jvm.ClassFile.FieldType.boolean)), [])
theorem mk12081 : MX 12081 mq12081 := ⟨iX7_isSmall, rfl, by decide, kX7_isSmall, by decide +kernel, rfl, rfl, rfl, (fun h => nomatch h), rfl, by decide +kernel, q2435, trivial⟩
theorem mc12081 : CALL0 1 mq12081 := ⟨by decide, q155, ⟨by decide, by decide, by decide +kernel⟩, q2435⟩
def mq12082 : Mq := (⟨"OldWeatherModel", "isDigit", "(I)Z"⟩, prog_31_method_55_code, 1, (some (Jvm.ClassFile.FieldType.boolean)), [])
theorem mk12082 : MX 12082 mq12082 := ⟨iX7_isDigit, rfl, by decide, kX7_isDigit, by decide +kernel, rfl, rfl, rfl, (fun h => nomatch h), rfl, by decide +kernel, q2438, trivial⟩
theorem mc12082 : CALL0 1 mq12082 := ⟨by decide, q155, ⟨by decide, by decide, by decide +kernel⟩, q2438⟩
def mq12083 : Mq := (⟨"OldWeatherModel", "readClause", "()V"⟩, prog_31_method_80_code, 5, none, [])
theorem mk12083 : MX 12083 mq12083 := ⟨iX7_readClause, rfl, by decide, kX7_readClause, by decide +kernel, rfl, rfl, rfl, (fun h => nomatch h), rfl, by decide +kernel, q2447, trivial⟩
theorem mc12083 : CALL0 0 mq12083 := ⟨by decide, q155, ⟨by decide, by decide, by decide +kernel⟩, q2447⟩
def mq12084 : Mq := (⟨"OldWeatherModel", "headAt", "()I"⟩, prog_31_method_76_code, 1, (some (Jvm.ClassFile.FieldType.int)), [])
theorem mk12084 : MX 12084 mq12084 := ⟨iX7_headAt, rfl, by decide, kX7_headAt, by decide +kernel, rfl, rfl, rfl, (fun h => nomatch h), rfl, by decide +kernel, q2451, trivial⟩
theorem mc12084 : CALL0 0 mq12084 := ⟨by decide, q155, ⟨by decide, by decide, by decide +kernel⟩, q2451⟩
def mq12085 : Mq := (⟨"OldWeatherModel", "isWord", "(J)Z"⟩, prog_31_method_58_code, 3, (some (Jvm.ClassFile.FieldType.boolean)), [])
theorem mk12085 : MX 12085 mq12085 := ⟨iX7_isWord, rfl, by decide, kX7_isWord, by decide +kernel, rfl, rfl, rfl, (fun h => nomatch h), rfl, by decide +kernel, q2456, trivial⟩
theorem mc12085 : CALL0 1 mq12085 := ⟨by decide, q155, ⟨by decide, by decide, by decide +kernel⟩, q2456⟩
def mq12086 : Mq := (⟨"OldWeatherModel", "must", "(Z)V"⟩, prog_31_method_60_code, 2, none, [])
theorem mk12086 : MX 12086 mq12086 := ⟨iX7_must, rfl, by decide, kX7_must, by decide +kernel, rfl, rfl, rfl, (fun h => nomatch h), rfl, by decide +kernel, q2468, trivial⟩
theorem mc12086 : CALL0 1 mq12086 := ⟨by decide, q155, ⟨by decide, by decide, by decide +kernel⟩, q2468⟩
def mq12087 : Mq := (⟨"OldWeatherModel", "number", "(JJ)I"⟩, prog_31_method_61_code, 6, (some (Jvm.ClassFile.FieldType.int)), [])
theorem mk12087 : MX 12087 mq12087 := ⟨iX7_number, rfl, by decide, kX7_number, by decide +kernel, rfl, rfl, rfl, (fun h => nomatch h), rfl, by decide +kernel, q2472, trivial⟩
theorem mc12087 : CALL0 2 mq12087 := ⟨by decide, q155, ⟨by decide, by decide, by decide +kernel⟩, q2472⟩
def mq12088 : Mq := (⟨"OldWeatherModel", "kindAt", "()I"⟩, prog_31_method_77_code, 1, (some (Jvm.ClassFile.FieldType.int)), [])
theorem mk12088 : MX 12088 mq12088 := ⟨iX7_kindAt, rfl, by decide, kX7_kindAt, by decide +kernel, rfl, rfl, rfl, (fun h => nomatch h), rfl, by decide +kernel, q2479, trivial⟩
theorem mc12088 : CALL0 0 mq12088 := ⟨by decide, q155, ⟨by decide, by decide, by decide +kernel⟩, q2479⟩
def mq12089 : Mq := (⟨"OldWeatherModel", "choice", "(I)I"⟩, prog_31_method_78_code, 2, (some (Jvm.ClassFile.FieldType.int)), [])
theorem mk12089 : MX 12089 mq12089 := ⟨iX7_choice, rfl, by decide, kX7_choice, by decide +kernel, rfl, rfl, rfl, (fun h => nomatch h), rfl, by decide +kernel, q2485, trivial⟩
theorem mc12089 : CALL0 1 mq12089 := ⟨by decide, q155, ⟨by decide, by decide, by decide +kernel⟩, q2485⟩
def mq12090 : Mq := (⟨"OldWeatherModel", "readPieces", "(IZZ)V"⟩, prog_31_method_79_code, 4, none, [])
theorem mk12090 : MX 12090 mq12090 := ⟨iX7_readPieces, rfl, by decide, kX7_readPieces, by decide +kernel, rfl, rfl, rfl, (fun h => nomatch h), rfl, by decide +kernel, q2489, trivial⟩
theorem mc12090 : CALL0 3 mq12090 := ⟨by decide, q155, ⟨by decide, by decide, by decide +kernel⟩, q2489⟩
def mq12091 : Mq := (⟨"OldWeatherModel", "readExpression", "(Z)V"⟩, prog_31_method_75_code, 3, none, [])
theorem mk12091 : MX 12091 mq12091 := ⟨iX7_readExpression, rfl, by decide, kX7_readExpression, by decide +kernel, rfl, rfl, rfl, (fun h => nomatch h), rfl, by decide +kernel, q2493, trivial⟩
theorem mc12091 : CALL0 1 mq12091 := ⟨by decide, q155, ⟨by decide, by decide, by decide +kernel⟩, q2493⟩
def mq12092 : Mq := (⟨"OldWeatherModel", "readPlain", "()I"⟩, prog_31_method_72_code, 1, (some (Jvm.ClassFile.FieldType.int)), [])
theorem mk12092 : MX 12092 mq12092 := ⟨iX7_readPlain, rfl, by decide, kX7_readPlain, by decide +kernel, rfl, rfl, rfl, (fun h => nomatch h), rfl, by decide +kernel, q2497, trivial⟩
theorem mc12092 : CALL0 0 mq12092 := ⟨by decide, q155, ⟨by decide, by decide, by decide +kernel⟩, q2497⟩
def mq12093 : Mq := (⟨"OldWeatherModel", "push", "(II)V"⟩, prog_31_method_64_code, 3, none, [])
theorem mk12093 : MX 12093 mq12093 := ⟨iX7_push, rfl, by decide, kX7_push, by decide +kernel, rfl, rfl, rfl, (fun h => nomatch h), rfl, by decide +kernel, q2502, trivial⟩
theorem mc12093 : CALL0 2 mq12093 := ⟨by decide, q155, ⟨by decide, by decide, by decide +kernel⟩, q2502⟩
def mq12094 : Mq := (⟨"OldWeatherModel", "isSign", "(I)Z"⟩, prog_31_method_59_code, 2, (some (Jvm.ClassFile.FieldType.boolean)), [])
theorem mk12094 : MX 12094 mq12094 := ⟨iX7_isSign, rfl, by decide, kX7_isSign, by decide +kernel, rfl, rfl, rfl, (fun h => nomatch h), rfl, by decide +kernel, q2506, trivial⟩
theorem mc12094 : CALL0 1 mq12094 := ⟨by decide, q155, ⟨by decide, by decide, by decide +kernel⟩, q2506⟩
def mq12095 : Mq := (⟨"OldWeatherModel", "open", "(I)V"⟩, prog_31_method_70_code, 2, none, [])
theorem mk12095 : MX 12095 mq12095 := ⟨iX7_open, rfl, by decide, kX7_open, by decide +kernel, rfl, rfl, rfl, (fun h => nomatch h), rfl, by decide +kernel, q2510, trivial⟩
theorem mc12095 : CALL0 1 mq12095 := ⟨by decide, q155, ⟨by decide, by decide, by decide +kernel⟩, q2510⟩
def mq12096 : Mq := (⟨"OldWeatherModel", "readPart", "()I"⟩, prog_31_method_71_code, 4, (some (Jvm.ClassFile.FieldType.int)), [])
theorem mk12096 : MX 12096 mq12096 := ⟨iX7_readPart, rfl, by decide, kX7_readPart, by decide +kernel, rfl, rfl, rfl, (fun h => nomatch h), rfl, by decide +kernel, q2514, trivial⟩
theorem mc12096 : CALL0 0 mq12096 := ⟨by decide, q155, ⟨by decide, by decide, by decide +kernel⟩, q2514⟩
def mq12097 : Mq := (⟨"OldWeatherModel", "partAt", "()I"⟩, prog_31_method_69_code, 1, (some (Jvm.ClassFile.FieldType.int)), [])
theorem mk12097 : MX 12097 mq12097 := ⟨iX7_partAt, rfl, by decide, kX7_partAt, by decide +kernel, rfl, rfl, rfl, (fun h => nomatch h), rfl, by decide +kernel, q2518, trivial⟩
theorem mc12097 : CALL0 0 mq12097 := ⟨by decide, q155, ⟨by decide, by decide, by decide +kernel⟩, q2518⟩
def mq12098 : Mq := (⟨"OldWeatherModel", "emit", "(II)V"⟩, prog_31_method_63_code, 3, none, [])
theorem mk12098 : MX 12098 mq12098 := ⟨iX7_emit, rfl, by decide, kX7_emit, by decide +kernel, rfl, rfl, rfl, (fun h => nomatch h), rfl, by decide +kernel, q2530, trivial⟩
theorem mc12098 : CALL0 2 mq12098 := ⟨by decide, q155, ⟨by decide, by decide, by decide +kernel⟩, q2530⟩
def mq12099 : Mq := (⟨"OldWeatherModel", "settle", "(I)V"⟩, prog_31_method_66_code, 2, none, [])
theorem mk12099 : MX 12099 mq12099 := ⟨iX7_settle, rfl, by decide, kX7_settle, by decide +kernel, rfl, rfl, rfl, (fun h => nomatch h), rfl, by decide +kernel, q2534, trivial⟩
theorem mc12099 : CALL0 1 mq12099 := ⟨by decide, q155, ⟨by decide, by decide, by decide +kernel⟩, q2534⟩
def mq12100 : Mq := (⟨"OldWeatherModel", "binds", "(I)I"⟩, prog_31_method_65_code, 1, (some (Jvm.ClassFile.FieldType.int)), [])
theorem mk12100 : MX 12100 mq12100 := ⟨iX7_binds, rfl, by decide, kX7_binds, by decide +kernel, rfl, rfl, rfl, (fun h => nomatch h), rfl, by decide +kernel, q2537, trivial⟩
theorem mc12100 : CALL0 1 mq12100 := ⟨by decide, q155, ⟨by decide, by decide, by decide +kernel⟩, q2537⟩
def mq12101 : Mq := (⟨"OldWeatherModel", "behindSum", "(Z)I"⟩, prog_31_method_73_code, 4, (some (Jvm.ClassFile.FieldType.int)), [])
theorem mk12101 : MX 12101 mq12101 := ⟨iX7_behindSum, rfl, by decide, kX7_behindSum, by decide +kernel, rfl, rfl, rfl, (fun h => nomatch h), rfl, by decide +kernel, q2541, trivial⟩
theorem mc12101 : CALL0 1 mq12101 := ⟨by decide, q155, ⟨by decide, by decide, by decide +kernel⟩, q2541⟩
def mq12102 : Mq := (⟨"OldWeatherModel", "inner", "()I"⟩, prog_31_method_67_code, 3, (some (Jvm.ClassFile.FieldType.int)), [])
theorem mk12102 : MX 12102 mq12102 := ⟨iX7_inner, rfl, by decide, kX7_inner, by decide +kernel, rfl, rfl, rfl, (fun h => nomatch h), rfl, by decide +kernel, q2545, trivial⟩
theorem mc12102 : CALL0 0 mq12102 := ⟨by decide, q155, ⟨by decide, by decide, by decide +kernel⟩, q2545⟩
def mq12103 : Mq := (⟨"OldWeatherModel", "isCompared", "()Z"⟩, prog_31_method_68_code, 2, (some (Jvm.ClassFile.FieldType.boolean)), [])
theorem mk12103 : MX 12103 mq12103 := ⟨iX7_isCompared, rfl, by decide, kX7_isCompared, by decide +kernel, rfl, rfl, rfl, (fun h => nomatch h), rfl, by decide +kernel, q2549, trivial⟩
theorem mc12103 : CALL0 0 mq12103 := ⟨by decide, q155, ⟨by decide, by decide, by decide +kernel⟩, q2549⟩
def mq12104 : Mq := (⟨"OldWeatherModel", "behindTest", "()I"⟩, prog_31_method_74_code, 2, (some (Jvm.ClassFile.FieldType.int)), [])
theorem mk12104 : MX 12104 mq12104 := ⟨iX7_behindTest, rfl, by decide, kX7_behindTest, by decide +kernel, rfl, rfl, rfl, (fun h => nomatch h), rfl, by decide +kernel, q2555, trivial⟩
theorem mc12104 : CALL0 0 mq12104 := ⟨by decide, q155, ⟨by decide, by decide, by decide +kernel⟩, q2555⟩
def mq12105 : Mq := (⟨"OldWeatherModel", "textAt", "(I)I"⟩, prog_31_method_82_code, 1, (some (Jvm.ClassFile.FieldType.int)), [])
theorem mk12105 : MX 12105 mq12105 := ⟨iX7_textAt, rfl, by decide, kX7_textAt, by decide +kernel, rfl, rfl, rfl, (fun h => nomatch h), rfl, by decide +kernel, q2563, trivial⟩
theorem mc12105 : CALL0 1 mq12105 := ⟨by decide, q155, ⟨by decide, by decide, by decide +kernel⟩, q2563⟩
def mq12106 : Mq := (⟨"OldWeatherModel", "force", "(III)I"⟩, prog_31_method_85_code, 4, (some (Jvm.ClassFile.FieldType.int)), [])
theorem mk12106 : MX 12106 mq12106 := ⟨iX7_force, rfl, by decide, kX7_force, by decide +kernel, rfl, rfl, rfl, (fun h => nomatch h), rfl, by decide +kernel, q2567, trivial⟩
theorem mc12106 : CALL0 3 mq12106 := ⟨by decide, q155, ⟨by decide, by decide, by decide +kernel⟩, q2567⟩
def mq12107 : Mq := (⟨"OldWeatherModel", "knowBy", "(I)V"⟩, prog_31_method_84_code, 5, none, [])
theorem mk12107 : MX 12107 mq12107 := ⟨iX7_knowBy, rfl, by decide, kX7_knowBy, by decide +kernel, rfl, rfl, rfl, (fun h => nomatch h), rfl, by decide +kernel, q2571, trivial⟩
theorem mc12107 : CALL0 1 mq12107 := ⟨by decide, q155, ⟨by decide, by decide, by decide +kernel⟩, q2571⟩
def mq12108 : Mq := (⟨"OldWeatherModel", "findAllDays", "()V"⟩, prog_31_method_41_code, 2, none, [])
theorem mk12108 : MX 12108 mq12108 := ⟨iX7_findAllDays, rfl, by decide, kX7_findAllDays, by decide +kernel, rfl, rfl, rfl, (fun h => nomatch h), rfl, by decide +kernel, q2575, trivial⟩
theorem mc12108 : CALL0 0 mq12108 := ⟨by decide, q155, ⟨by decide, by decide, by decide +kernel⟩, q2575⟩
def mq12109 : Mq := (⟨"OldWeatherModel", "clauseAt", "(II)I"⟩, prog_31_method_83_code, 2, (some (Jvm.ClassFile.FieldType.int)), [])
theorem mk12109 : MX 12109 mq12109 := ⟨iX7_clauseAt, rfl, by decide, kX7_clauseAt, by decide +kernel, rfl, rfl, rfl, (fun h => nomatch h), rfl, by decide +kernel, q2578, trivial⟩
theorem mc12109 : CALL0 2 mq12109 := ⟨by decide, q155, ⟨by decide, by decide, by decide +kernel⟩, q2578⟩
def mq12110 : Mq := (⟨"OldWeatherModel", "findOnes", "()V"⟩, prog_31_method_107_code, 5, none, [])
theorem mk12110 : MX 12110 mq12110 := ⟨iX7_findOnes, rfl, by decide, kX7_findOnes, by decide +kernel, rfl, rfl, rfl, (fun h => nomatch h), rfl, by decide +kernel, q2582, trivial⟩
theorem mc12110 : CALL0 0 mq12110 := ⟨by decide, q155, ⟨by decide, by decide, by decide +kernel⟩, q2582⟩
def mq12111 : Mq := (⟨"OldWeatherModel", "lastOf", "(II)I"⟩, prog_31_method_91_code, 6, (some (Jvm.ClassFile.FieldType.int)), [])
theorem mk12111 : MX 12111 mq12111 := ⟨iX7_lastOf, rfl, by decide, kX7_lastOf, by decide +kernel, rfl, rfl, rfl, (fun h => nomatch h), rfl, by decide +kernel, q2586, trivial⟩
theorem mc12111 : CALL0 2 mq12111 := ⟨by decide, q155, ⟨by decide, by decide, by decide +kernel⟩, q2586⟩
def mq12112 : Mq := (⟨"OldWeatherModel", "shared", "(II)I"⟩, prog_31_method_106_code, 7, (some (Jvm.ClassFile.FieldType.int)), [])
theorem mk12112 : MX 12112 mq12112 := ⟨iX7_shared, rfl, by decide, kX7_shared, by decide +kernel, rfl, rfl, rfl, (fun h => nomatch h), rfl, by decide +kernel, q2590, trivial⟩
theorem mc12112 : CALL0 2 mq12112 := ⟨by decide, q155, ⟨by decide, by decide, by decide +kernel⟩, q2590⟩
def mq12113 : Mq := (⟨"OldWeatherModel", "bound", "(III)I"⟩, prog_31_method_97_code, 5, (some (Jvm.ClassFile.FieldType.int)), [])
theorem mk12113 : MX 12113 mq12113 := ⟨iX7_bound, rfl, by decide, kX7_bound, by decide +kernel, rfl, rfl, rfl, (fun h => nomatch h), rfl, by decide +kernel, q2594, trivial⟩
theorem mc12113 : CALL0 3 mq12113 := ⟨by decide, q155, ⟨by decide, by decide, by decide +kernel⟩, q2594⟩
def mq12114 : Mq := (⟨"OldWeatherModel", "dayFirst", "(I)I"⟩, prog_31_method_42_code, 2, (some (Jvm.ClassFile.FieldType.int)), [])
theorem mk12114 : MX 12114 mq12114 := ⟨iX7_dayFirst, rfl, by decide, kX7_dayFirst, by decide +kernel, rfl, rfl, rfl, (fun h => nomatch h), rfl, by decide +kernel, q2598, trivial⟩
theorem mc12114 : CALL0 1 mq12114 := ⟨by decide, q155, ⟨by decide, by decide, by decide +kernel⟩, q2598⟩
def mq12115 : Mq := (⟨"OldWeatherModel", "isTold", "(I)Z"⟩, prog_31_method_93_code, 2, (some (Jvm.ClassFile.FieldType.boolean)), [])
theorem mk12115 : MX 12115 mq12115 := ⟨iX7_isTold, rfl, by decide, kX7_isTold, by decide +kernel, rfl, rfl, rfl, (fun h => nomatch h), rfl, by decide +kernel, q2602, trivial⟩
theorem mc12115 : CALL0 1 mq12115 := ⟨by decide, q155, ⟨by decide, by decide, by decide +kernel⟩, q2602⟩
def mq12116 : Mq := (⟨"OldWeatherModel", "findBounds", "(II)Z"⟩, prog_31_method_96_code, 11, (some (Jvm.ClassFile.FieldType.boolean)), [])
theorem mk12116 : MX 12116 mq12116 := ⟨iX7_findBounds, rfl, by decide, kX7_findBounds, by decide +kernel, rfl, rfl, rfl, (fun h => nomatch h), rfl, by decide +kernel, q2606, trivial⟩
theorem mc12116 : CALL0 2 mq12116 := ⟨by decide, q155, ⟨by decide, by decide, by decide +kernel⟩, q2606⟩
def mq12117 : Mq := (⟨"OldWeatherModel", "putRight", "(II)J"⟩, prog_31_method_94_code, 5, (some (Jvm.ClassFile.FieldType.long)), [])
theorem mk12117 : MX 12117 mq12117 := ⟨iX7_putRight, rfl, by decide, kX7_putRight, by decide +kernel, rfl, rfl, rfl, (fun h => nomatch h), rfl, by decide +kernel, q2610, trivial⟩
theorem mc12117 : CALL0 2 mq12117 := ⟨by decide, q155, ⟨by decide, by decide, by decide +kernel⟩, q2610⟩
def mq12118 : Mq := (⟨"OldWeatherModel", "find", "(IIIII)Z"⟩, prog_31_method_89_code, 13, (some (Jvm.ClassFile.FieldType.boolean)), [])
theorem mk12118 : MX 12118 mq12118 := ⟨iX7_find, rfl, by decide, kX7_find, by decide +kernel, rfl, rfl, rfl, (fun h => nomatch h), rfl, by decide +kernel, q2614, trivial⟩
theorem mc12118 : CALL0 5 mq12118 := ⟨by decide, q155, ⟨by decide, by decide, by decide +kernel⟩, q2614⟩
def mq12119 : Mq := (⟨"OldWeatherModel", "setFor", "(II)V"⟩, prog_31_method_86_code, 4, none, [])
theorem mk12119 : MX 12119 mq12119 := ⟨iX7_setFor, rfl, by decide, kX7_setFor, by decide +kernel, rfl, rfl, rfl, (fun h => nomatch h), rfl, by decide +kernel, q2618, trivial⟩
theorem mc12119 : CALL0 2 mq12119 := ⟨by decide, q155, ⟨by decide, by decide, by decide +kernel⟩, q2618⟩
def mq12120 : Mq := (⟨"OldWeatherModel", "placeOf", "(I)I"⟩, prog_31_method_25_code, 2, (some (Jvm.ClassFile.FieldType.int)), [])
theorem mk12120 : MX 12120 mq12120 := ⟨iX7_placeOf, rfl, by decide, kX7_placeOf, by decide +kernel, rfl, rfl, rfl, (fun h => nomatch h), rfl, by decide +kernel, q2622, trivial⟩
theorem mc12120 : CALL0 1 mq12120 := ⟨by decide, q155, ⟨by decide, by decide, by decide +kernel⟩, q2622⟩
def mq12121 : Mq := (⟨"OldWeatherModel", "handOf", "(I)I"⟩, prog_31_method_24_code, 2, (some (Jvm.ClassFile.FieldType.int)), [])
theorem mk12121 : MX 12121 mq12121 := ⟨iX7_handOf, rfl, by decide, kX7_handOf, by decide +kernel, rfl, rfl, rfl, (fun h => nomatch h), rfl, by decide +kernel, q2626, trivial⟩
theorem mc12121 : CALL0 1 mq12121 := ⟨by decide, q155, ⟨by decide, by decide, by decide +kernel⟩, q2626⟩
def mq12122 : Mq := (⟨"OldWeatherModel", "holds", "(II)Z"⟩, prog_31_method_90_code, 3, (some (Jvm.ClassFile.FieldType.boolean)), [])
theorem mk12122 : MX 12122 mq12122 := ⟨iX7_holds, rfl, by decide, kX7_holds, by decide +kernel, rfl, rfl, rfl, (fun h => nomatch h), rfl, by decide +kernel, q2630, trivial⟩
theorem mc12122 : CALL0 2 mq12122 := ⟨by decide, q155, ⟨by decide, by decide, by decide +kernel⟩, q2630⟩
def mq12123 : Mq := (⟨"OldWeatherModel", "run", "(III)V"⟩, prog_31_method_88_code, 8, none, [])
theorem mk12123 : MX 12123 mq12123 := ⟨iX7_run, rfl, by decide, kX7_run, by decide +kernel, rfl, rfl, rfl, (fun h => nomatch h), rfl, by decide +kernel, q2634, trivial⟩
theorem mc12123 : CALL0 3 mq12123 := ⟨by decide, q155, ⟨by decide, by decide, by decide +kernel⟩, q2634⟩
def mq12124 : Mq := (⟨"OldWeatherModel", "reckon", "(IJJ)J"⟩, prog_31_method_87_code, 6, (some (Jvm.ClassFile.FieldType.long)), [])
theorem mk12124 : MX 12124 mq12124 := ⟨iX7_reckon, rfl, by decide, kX7_reckon, by decide +kernel, rfl, rfl, rfl, (fun h => nomatch h), rfl, by decide +kernel, q2640, trivial⟩
theorem mc12124 : CALL0 3 mq12124 := ⟨by decide, q155, ⟨by decide, by decide, by decide +kernel⟩, q2640⟩
def mq12125 : Mq := (⟨"OldWeatherModel", "keepSpan", "(JJ)Z"⟩, prog_31_method_95_code, 5, (some (Jvm.ClassFile.FieldType.boolean)), [])
theorem mk12125 : MX 12125 mq12125 := ⟨iX7_keepSpan, rfl, by decide, kX7_keepSpan, by decide +kernel, rfl, rfl, rfl, (fun h => nomatch h), rfl, by decide +kernel, q2644, trivial⟩
theorem mc12125 : CALL0 2 mq12125 := ⟨by decide, q155, ⟨by decide, by decide, by decide +kernel⟩, q2644⟩
def mq12126 : Mq := (⟨"OldWeatherModel", "within", "(J)I"⟩, prog_31_method_92_code, 2, (some (Jvm.ClassFile.FieldType.int)), [])
theorem mk12126 : MX 12126 mq12126 := ⟨iX7_within, rfl, by decide, kX7_within, by decide +kernel, rfl, rfl, rfl, (fun h => nomatch h), rfl, by decide +kernel, q2647, trivial⟩
theorem mc12126 : CALL0 1 mq12126 := ⟨by decide, q155, ⟨by decide, by decide, by decide +kernel⟩, q2647⟩
def mq12127 : Mq := (⟨"OldWeatherModel", "findLearned", "(II)Z"⟩, prog_31_method_103_code, 14, (some (Jvm.ClassFile.FieldType.boolean)), [])
theorem mk12127 : MX 12127 mq12127 := ⟨iX7_findLearned, rfl, by decide, kX7_findLearned, by decide +kernel, rfl, rfl, rfl, (fun h => nomatch h), rfl, by decide +kernel, q2652, trivial⟩
theorem mc12127 : CALL0 2 mq12127 := ⟨by decide, q155, ⟨by decide, by decide, by decide +kernel⟩, q2652⟩
def mq12128 : Mq := (⟨"OldWeatherModel", "learn", "(II)V"⟩, prog_31_method_102_code, 5, none, [])
theorem mk12128 : MX 12128 mq12128 := ⟨iX7_learn, rfl, by decide, kX7_learn, by decide +kernel, rfl, rfl, rfl, (fun h => nomatch h), rfl, by decide +kernel, q2656, trivial⟩
theorem mc12128 : CALL0 2 mq12128 := ⟨by decide, q155, ⟨by decide, by decide, by decide +kernel⟩, q2656⟩
def mq12129 : Mq := (⟨"OldWeatherModel", "findPairs", "(II)V"⟩, prog_31_method_101_code, 6, none, [])
theorem mk12129 : MX 12129 mq12129 := ⟨iX7_findPairs, rfl, by decide, kX7_findPairs, by decide +kernel, rfl, rfl, rfl, (fun h => nomatch h), rfl, by decide +kernel, q2660, trivial⟩
theorem mc12129 : CALL0 2 mq12129 := ⟨by decide, q155, ⟨by decide, by decide, by decide +kernel⟩, q2660⟩
def mq12130 : Mq := (⟨"OldWeatherModel", "isSure", "(I)Z"⟩, prog_31_method_43_code, 2, (some (Jvm.ClassFile.FieldType.boolean)), [])
theorem mk12130 : MX 12130 mq12130 := ⟨iX7_isSure, rfl, by decide, kX7_isSure, by decide +kernel, rfl, rfl, rfl, (fun h => nomatch h), rfl, by decide +kernel, q2664, trivial⟩
theorem mc12130 : CALL0 1 mq12130 := ⟨by decide, q155, ⟨by decide, by decide, by decide +kernel⟩, q2664⟩
def mq12131 : Mq := (⟨"OldWeatherModel", "gaugeBy", "(II)I"⟩, prog_31_method_100_code, 6, (some (Jvm.ClassFile.FieldType.int)), [])
theorem mk12131 : MX 12131 mq12131 := ⟨iX7_gaugeBy, rfl, by decide, kX7_gaugeBy, by decide +kernel, rfl, rfl, rfl, (fun h => nomatch h), rfl, by decide +kernel, q2668, trivial⟩
theorem mc12131 : CALL0 2 mq12131 := ⟨by decide, q155, ⟨by decide, by decide, by decide +kernel⟩, q2668⟩
def mq12132 : Mq := (⟨"OldWeatherModel", "at", "(I)I"⟩, prog_31_method_32_code, 2, (some (Jvm.ClassFile.FieldType.int)), [])
theorem mk12132 : MX 12132 mq12132 := ⟨iX7_at, rfl, by decide, kX7_at, by decide +kernel, rfl, rfl, rfl, (fun h => nomatch h), rfl, by decide +kernel, q2672, trivial⟩
theorem mc12132 : CALL0 1 mq12132 := ⟨by decide, q155, ⟨by decide, by decide, by decide +kernel⟩, q2672⟩
def mq12133 : Mq := (⟨"OldWeatherModel", "ordered", "(II)I"⟩, prog_31_method_99_code, 3, (some (Jvm.ClassFile.FieldType.int)), [])
theorem mk12133 : MX 12133 mq12133 := ⟨iX7_ordered, rfl, by decide, kX7_ordered, by decide +kernel, rfl, rfl, rfl, (fun h => nomatch h), rfl, by decide +kernel, q2676, trivial⟩
theorem mc12133 : CALL0 2 mq12133 := ⟨by decide, q155, ⟨by decide, by decide, by decide +kernel⟩, q2676⟩
def mq12134 : Mq := (⟨"OldWeatherModel", "scale", "(III)I"⟩, prog_31_method_98_code, 5, (some (Jvm.ClassFile.FieldType.int)), [])
theorem mk12134 : MX 12134 mq12134 := ⟨iX7_scale, rfl, by decide, kX7_scale, by decide +kernel, rfl, rfl, rfl, (fun h => nomatch h), rfl, by decide +kernel, q2680, trivial⟩
theorem mc12134 : CALL0 3 mq12134 := ⟨by decide, q155, ⟨by decide, by decide, by decide +kernel⟩, q2680⟩
def mq12135 : Mq := (⟨"OldWeatherModel", "learned", "(IIII)I"⟩, prog_31_method_104_code, 10, (some (Jvm.ClassFile.FieldType.int)), [])
theorem mk12135 : MX 12135 mq12135 := ⟨iX7_learned, rfl, by decide, kX7_learned, by decide +kernel, rfl, rfl, rfl, (fun h => nomatch h), rfl, by decide +kernel, q2684, trivial⟩
theorem mc12135 : CALL0 4 mq12135 := ⟨by decide, q155, ⟨by decide, by decide, by decide +kernel⟩, q2684⟩
def mq12136 : Mq := (⟨"OldWeatherModel", "slip", "(III)I"⟩, prog_31_method_105_code, 5, (some (Jvm.ClassFile.FieldType.int)), [])
theorem mk12136 : MX 12136 mq12136 := ⟨iX7_slip, rfl, by decide, kX7_slip, by decide +kernel, rfl, rfl, rfl, (fun h => nomatch h), rfl, by decide +kernel, q2688, trivial⟩
theorem mc12136 : CALL0 3 mq12136 := ⟨by decide, q155, ⟨by decide, by decide, by decide +kernel⟩, q2688⟩
def mq12137 : Mq := (⟨"OldWeatherModel", "same", "(II)I"⟩, prog_31_method_108_code, 3, (some (Jvm.ClassFile.FieldType.int)), [])
theorem mk12137 : MX 12137 mq12137 := ⟨iX7_same, rfl, by decide, kX7_same, by decide +kernel, rfl, rfl, rfl, (fun h => nomatch h), rfl, by decide +kernel, q2692, trivial⟩
theorem mc12137 : CALL0 2 mq12137 := ⟨by decide, q155, ⟨by decide, by decide, by decide +kernel⟩, q2692⟩
def mq12138 : Mq := (⟨"OldWeatherModel", "counts", "(II)I"⟩, prog_31_method_110_code, 3, (some (Jvm.ClassFile.FieldType.int)), [])
theorem mk12138 : MX 12138 mq12138 := ⟨iX7_counts, rfl, by decide, kX7_counts, by decide +kernel, rfl, rfl, rfl, (fun h => nomatch h), rfl, by decide +kernel, q2696, trivial⟩
theorem mc12138 : CALL0 2 mq12138 := ⟨by decide, q155, ⟨by decide, by decide, by decide +kernel⟩, q2696⟩
def mq12139 : Mq := (⟨"OldWeatherModel", "doesCount", "(I)Z"⟩, prog_31_method_109_code, 7, (some (Jvm.ClassFile.FieldType.boolean)), [])
theorem mk12139 : MX 12139 mq12139 := ⟨iX7_doesCount, rfl, by decide, kX7_doesCount, by decide +kernel, rfl, rfl, rfl, (fun h => nomatch h), rfl, by decide +kernel, q2700, trivial⟩
theorem mc12139 : CALL0 1 mq12139 := ⟨by decide, q155, ⟨by decide, by decide, by decide +kernel⟩, q2700⟩
def mq12140 : Mq := (⟨"OldWeatherModel", "joined", "(IIII)I"⟩, prog_31_method_116_code, 5, (some (Jvm.ClassFile.FieldType.int)), [])
theorem mk12140 : MX 12140 mq12140 := ⟨iX7_joined, rfl, by decide, kX7_joined, by decide +kernel, rfl, rfl, rfl, (fun h => nomatch h), rfl, by decide +kernel, q2704, trivial⟩
theorem mc12140 : CALL0 4 mq12140 := ⟨by decide, q155, ⟨by decide, by decide, by decide +kernel⟩, q2704⟩
def mq12141 : Mq := (⟨"OldWeatherModel", "noShifts", "()V"⟩, prog_31_method_111_code, 2, none, [])
theorem mk12141 : MX 12141 mq12141 := ⟨iX7_noShifts, rfl, by decide, kX7_noShifts, by decide +kernel, rfl, rfl, rfl, (fun h => nomatch h), rfl, by decide +kernel, q2708, trivial⟩
theorem mc12141 : CALL0 0 mq12141 := ⟨by decide, q155, ⟨by decide, by decide, by decide +kernel⟩, q2708⟩
def mq12142 : Mq := (⟨"OldWeatherModel", "join", "(II)V"⟩, prog_31_method_114_code, 22, none, [])
theorem mk12142 : MX 12142 mq12142 := ⟨iX7_join, rfl, by decide, kX7_join, by decide +kernel, rfl, rfl, rfl, (fun h => nomatch h), rfl, by decide +kernel, q2712, trivial⟩
theorem mc12142 : CALL0 2 mq12142 := ⟨by decide, q155, ⟨by decide, by decide, by decide +kernel⟩, q2712⟩
def mq12143 : Mq := (⟨"OldWeatherModel", "likeOf", "(II)I"⟩, prog_31_method_22_code, 3, (some (Jvm.ClassFile.FieldType.int)), [])
theorem mk12143 : MX 12143 mq12143 := ⟨iX7_likeOf, rfl, by decide, kX7_likeOf, by decide +kernel, rfl, rfl, rfl, (fun h => nomatch h), rfl, by decide +kernel, q2716, trivial⟩
theorem mc12143 : CALL0 2 mq12143 := ⟨by decide, q155, ⟨by decide, by decide, by decide +kernel⟩, q2716⟩
def mq12144 : Mq := (⟨"OldWeatherModel", "weightOf", "(II)J"⟩, prog_31_method_112_code, 4, (some (Jvm.ClassFile.FieldType.long)), [])
theorem mk12144 : MX 12144 mq12144 := ⟨iX7_weightOf, rfl, by decide, kX7_weightOf, by decide +kernel, rfl, rfl, rfl, (fun h => nomatch h), rfl, by decide +kernel, q2720, trivial⟩
theorem mc12144 : CALL0 2 mq12144 := ⟨by decide, q155, ⟨by decide, by decide, by decide +kernel⟩, q2720⟩
def mq12145 : Mq := (⟨"OldWeatherModel", "floor", "(JJ)I"⟩, prog_31_method_113_code, 6, (some (Jvm.ClassFile.FieldType.int)), [])
theorem mk12145 : MX 12145 mq12145 := ⟨iX7_floor, rfl, by decide, kX7_floor, by decide +kernel, rfl, rfl, rfl, (fun h => nomatch h), rfl, by decide +kernel, q2723, trivial⟩
theorem mc12145 : CALL0 2 mq12145 := ⟨by decide, q155, ⟨by decide, by decide, by decide +kernel⟩, q2723⟩
def mq12146 : Mq := (⟨"OldWeatherModel", "tellJoined", "(I)I"⟩, prog_31_method_115_code, 2, (some (Jvm.ClassFile.FieldType.int)), [])
theorem mk12146 : MX 12146 mq12146 := ⟨iX7_tellJoined, rfl, by decide, kX7_tellJoined, by decide +kernel, rfl, rfl, rfl, (fun h => nomatch h), rfl, by decide +kernel, q2727, trivial⟩
theorem mc12146 : CALL0 1 mq12146 := ⟨by decide, q155, ⟨by decide, by decide, by decide +kernel⟩, q2727⟩
def mq12147 : Mq := (⟨"OldWeatherModel", "led", "(IIII)I"⟩, prog_31_method_117_code, 5, (some (Jvm.ClassFile.FieldType.int)), [])
theorem mk12147 : MX 12147 mq12147 := ⟨iX7_led, rfl, by decide, kX7_led, by decide +kernel, rfl, rfl, rfl, (fun h => nomatch h), rfl, by decide +kernel, q2731, trivial⟩
theorem mc12147 : CALL0 4 mq12147 := ⟨by decide, q155, ⟨by decide, by decide, by decide +kernel⟩, q2731⟩
def mq12148 : Mq := (⟨"OldWeatherModel", "left", "(IIIII)I"⟩, prog_31_method_118_code, 11, (some (Jvm.ClassFile.FieldType.int)), [])
theorem mk12148 : MX 12148 mq12148 := ⟨iX7_left, rfl, by decide, kX7_left, by decide +kernel, rfl, rfl, rfl, (fun h => nomatch h), rfl, by decide +kernel, q2735, trivial⟩
theorem mc12148 : CALL0 5 mq12148 := ⟨by decide, q155, ⟨by decide, by decide, by decide +kernel⟩, q2735⟩
def mq12149 : Mq := (⟨"OldWeatherModel", "wish", "(I)I"⟩, prog_31_method_119_code, 3, (some (Jvm.ClassFile.FieldType.int)), [])
theorem mk12149 : MX 12149 mq12149 := ⟨iX7_wish, rfl, by decide, kX7_wish, by decide +kernel, rfl, rfl, rfl, (fun h => nomatch h), rfl, by decide +kernel, q2739, trivial⟩
theorem mc12149 : CALL0 1 mq12149 := ⟨by decide, q155, ⟨by decide, by decide, by decide +kernel⟩, q2739⟩
def mq12150 : Mq := (⟨"OldWeatherModel", "clear", "()I"⟩, prog_31_method_120_code, 2, (some (Jvm.ClassFile.FieldType.int)), [])
theorem mk12150 : MX 12150 mq12150 := ⟨iX7_clear, rfl, by decide, kX7_clear, by decide +kernel, rfl, rfl, rfl, (fun h => nomatch h), rfl, by decide +kernel, q2743, trivial⟩
theorem mc12150 : CALL0 0 mq12150 := ⟨by decide, q155, ⟨by decide, by decide, by decide +kernel⟩, q2743⟩
def mq12151 : Mq := (⟨"OldWeatherModel", "best", "(I)I"⟩, prog_31_method_128_code, 9, (some (Jvm.ClassFile.FieldType.int)), [])
theorem mk12151 : MX 12151 mq12151 := ⟨iX7_best, rfl, by decide, kX7_best, by decide +kernel, rfl, rfl, rfl, (fun h => nomatch h), rfl, by decide +kernel, q2747, trivial⟩
theorem mc12151 : CALL0 1 mq12151 := ⟨by decide, q155, ⟨by decide, by decide, by decide +kernel⟩, q2747⟩
def mq12152 : Mq := (⟨"OldWeatherModel", "countClashes", "()V"⟩, prog_31_method_125_code, 7, none, [])
theorem mk12152 : MX 12152 mq12152 := ⟨iX7_countClashes, rfl, by decide, kX7_countClashes, by decide +kernel, rfl, rfl, rfl, (fun h => nomatch h), rfl, by decide +kernel, q2751, trivial⟩
theorem mc12152 : CALL0 0 mq12152 := ⟨by decide, q155, ⟨by decide, by decide, by decide +kernel⟩, q2751⟩
def mq12153 : Mq := (⟨"OldWeatherModel", "findShifts", "()V"⟩, prog_31_method_123_code, 6, none, [])
theorem mk12153 : MX 12153 mq12153 := ⟨iX7_findShifts, rfl, by decide, kX7_findShifts, by decide +kernel, rfl, rfl, rfl, (fun h => nomatch h), rfl, by decide +kernel, q2755, trivial⟩
theorem mc12153 : CALL0 0 mq12153 := ⟨by decide, q155, ⟨by decide, by decide, by decide +kernel⟩, q2755⟩
def mq12154 : Mq := (⟨"OldWeatherModel", "shiftBy", "(I)I"⟩, prog_31_method_121_code, 1, (some (Jvm.ClassFile.FieldType.int)), [])
theorem mk12154 : MX 12154 mq12154 := ⟨iX7_shiftBy, rfl, by decide, kX7_shiftBy, by decide +kernel, rfl, rfl, rfl, (fun h => nomatch h), rfl, by decide +kernel, q2758, trivial⟩
theorem mc12154 : CALL0 1 mq12154 := ⟨by decide, q155, ⟨by decide, by decide, by decide +kernel⟩, q2758⟩
def mq12155 : Mq := (⟨"OldWeatherModel", "wishOf", "(I)I"⟩, prog_31_method_122_code, 4, (some (Jvm.ClassFile.FieldType.int)), [])
theorem mk12155 : MX 12155 mq12155 := ⟨iX7_wishOf, rfl, by decide, kX7_wishOf, by decide +kernel, rfl, rfl, rfl, (fun h => nomatch h), rfl, by decide +kernel, q2762, trivial⟩
theorem mc12155 : CALL0 1 mq12155 := ⟨by decide, q155, ⟨by decide, by decide, by decide +kernel⟩, q2762⟩
def mq12156 : Mq := (⟨"OldWeatherModel", "clash", "(IIII)Z"⟩, prog_31_method_124_code, 8, (some (Jvm.ClassFile.FieldType.boolean)), [])
theorem mk12156 : MX 12156 mq12156 := ⟨iX7_clash, rfl, by decide, kX7_clash, by decide +kernel, rfl, rfl, rfl, (fun h => nomatch h), rfl, by decide +kernel, q2766, trivial⟩
theorem mc12156 : CALL0 4 mq12156 := ⟨by decide, q155, ⟨by decide, by decide, by decide +kernel⟩, q2766⟩
def mq12157 : Mq := (⟨"OldWeatherModel", "rowsOf", "()I"⟩, prog_31_method_127_code, 3, (some (Jvm.ClassFile.FieldType.int)), [])
theorem mk12157 : MX 12157 mq12157 := ⟨iX7_rowsOf, rfl, by decide, kX7_rowsOf, by decide +kernel, rfl, rfl, rfl, (fun h => nomatch h), rfl, by decide +kernel, q2770, trivial⟩
theorem mc12157 : CALL0 0 mq12157 := ⟨by decide, q155, ⟨by decide, by decide, by decide +kernel⟩, q2770⟩
def mq12158 : Mq := (⟨"OldWeatherModel", "quarrels", "()I"⟩, prog_31_method_126_code, 4, (some (Jvm.ClassFile.FieldType.int)), [])
theorem mk12158 : MX 12158 mq12158 := ⟨iX7_quarrels, rfl, by decide, kX7_quarrels, by decide +kernel, rfl, rfl, rfl, (fun h => nomatch h), rfl, by decide +kernel, q2774, trivial⟩
theorem mc12158 : CALL0 0 mq12158 := ⟨by decide, q155, ⟨by decide, by decide, by decide +kernel⟩, q2774⟩
def mq12159 : Mq := (⟨"OldWeatherModel", "chosen", "(I)I"⟩, prog_31_method_129_code, 2, (some (Jvm.ClassFile.FieldType.int)), [])
theorem mk12159 : MX 12159 mq12159 := ⟨iX7_chosen, rfl, by decide, kX7_chosen, by decide +kernel, rfl, rfl, rfl, (fun h => nomatch h), rfl, by decide +kernel, q2778, trivial⟩
theorem mc12159 : CALL0 1 mq12159 := ⟨by decide, q155, ⟨by decide, by decide, by decide +kernel⟩, q2778⟩
def mq12160 : Mq := (⟨"OldWeatherModel", "judge", "(II)I"⟩, prog_31_method_130_code, 5, (some (Jvm.ClassFile.FieldType.int)), [])
theorem mk12160 : MX 12160 mq12160 := ⟨iX7_judge, rfl, by decide, kX7_judge, by decide +kernel, rfl, rfl, rfl, (fun h => nomatch h), rfl, by decide +kernel, q2782, trivial⟩
theorem mc12160 : CALL0 2 mq12160 := ⟨by decide, q155, ⟨by decide, by decide, by decide +kernel⟩, q2782⟩
def mq12161 : Mq := (⟨"OldWeatherModel", "beside", "(IIII)I"⟩, prog_31_method_131_code, 6, (some (Jvm.ClassFile.FieldType.int)), [])
theorem mk12161 : MX 12161 mq12161 := ⟨iX7_beside, rfl, by decide, kX7_beside, by decide +kernel, rfl, rfl, rfl, (fun h => nomatch h), rfl, by decide +kernel, q2786, trivial⟩
theorem mc12161 : CALL0 4 mq12161 := ⟨by decide, q155, ⟨by decide, by decide, by decide +kernel⟩, q2786⟩
def mq12162 : Mq := (⟨"OldWeatherModel", "winter", "(IIII)I"⟩, prog_31_method_135_code, 5, (some (Jvm.ClassFile.FieldType.int)), [])
theorem mk12162 : MX 12162 mq12162 := ⟨iX7_winter, rfl, by decide, kX7_winter, by decide +kernel, rfl, rfl, rfl, (fun h => nomatch h), rfl, by decide +kernel, q2790, trivial⟩
theorem mc12162 : CALL0 4 mq12162 := ⟨by decide, q155, ⟨by decide, by decide, by decide +kernel⟩, q2790⟩
def mq12163 : Mq := (⟨"OldWeatherModel", "isWinter", "(I)Z"⟩, prog_31_method_134_code, 1, (some (Jvm.ClassFile.FieldType.boolean)), [])
theorem mk12163 : MX 12163 mq12163 := ⟨iX7_isWinter, rfl, by decide, kX7_isWinter, by decide +kernel, rfl, rfl, rfl, (fun h => nomatch h), rfl, by decide +kernel, q2793, trivial⟩
theorem mc12163 : CALL0 1 mq12163 := ⟨by decide, q155, ⟨by decide, by decide, by decide +kernel⟩, q2793⟩
def mq12164 : Mq := (⟨"OldWeatherModel", "findWinter", "(II)V"⟩, prog_31_method_133_code, 3, none, [])
theorem mk12164 : MX 12164 mq12164 := ⟨iX7_findWinter, rfl, by decide, kX7_findWinter, by decide +kernel, rfl, rfl, rfl, (fun h => nomatch h), rfl, by decide +kernel, q2800, trivial⟩
theorem mc12164 : CALL0 2 mq12164 := ⟨by decide, q155, ⟨by decide, by decide, by decide +kernel⟩, q2800⟩
def mq12165 : Mq := (⟨"OldWeatherModel", "addDays", "(III)V"⟩, prog_31_method_132_code, 6, none, [])
theorem mk12165 : MX 12165 mq12165 := ⟨iX7_addDays, rfl, by decide, kX7_addDays, by decide +kernel, rfl, rfl, rfl, (fun h => nomatch h), rfl, by decide +kernel, q2804, trivial⟩
theorem mc12165 : CALL0 3 mq12165 := ⟨by decide, q155, ⟨by decide, by decide, by decide +kernel⟩, q2804⟩
def mq12166 : Mq := (⟨"OldWeatherModel", "rank", "(IIIIII)I"⟩, prog_31_method_136_code, 16, (some (Jvm.ClassFile.FieldType.int)), [])
theorem mk12166 : MX 12166 mq12166 := ⟨iX7_rank, rfl, by decide, kX7_rank, by decide +kernel, rfl, rfl, rfl, (fun h => nomatch h), rfl, by decide +kernel, q2808, trivial⟩
theorem mc12166 : CALL0 6 mq12166 := ⟨by decide, q155, ⟨by decide, by decide, by decide +kernel⟩, q2808⟩
def mq12167 : Mq := (⟨"OldWeatherModel", "often", "(IIIII)I"⟩, prog_31_method_137_code, 13, (some (Jvm.ClassFile.FieldType.int)), [])
theorem mk12167 : MX 12167 mq12167 := ⟨iX7_often, rfl, by decide, kX7_often, by decide +kernel, rfl, rfl, rfl, (fun h => nomatch h), rfl, by decide +kernel, q2812, trivial⟩
theorem mc12167 : CALL0 5 mq12167 := ⟨by decide, q155, ⟨by decide, by decide, by decide +kernel⟩, q2812⟩
def mq12168 : Mq := (⟨"OldWeatherModel", "offer", "(IIIII)I"⟩, prog_31_method_138_code, 7, (some (Jvm.ClassFile.FieldType.int)), [])
theorem mk12168 : MX 12168 mq12168 := ⟨iX7_offer, rfl, by decide, kX7_offer, by decide +kernel, rfl, rfl, rfl, (fun h => nomatch h), rfl, by decide +kernel, q2816, trivial⟩
theorem mc12168 : CALL0 5 mq12168 := ⟨by decide, q155, ⟨by decide, by decide, by decide +kernel⟩, q2816⟩
def mq12169 : Mq := (⟨"OldWeatherModel", "plan", "(IIIIII)I"⟩, prog_31_method_140_code, 14, (some (Jvm.ClassFile.FieldType.int)), [])
theorem mk12169 : MX 12169 mq12169 := ⟨iX7_plan, rfl, by decide, kX7_plan, by decide +kernel, rfl, rfl, rfl, (fun h => nomatch h), rfl, by decide +kernel, q2821, trivial⟩
theorem mc12169 : CALL0 6 mq12169 := ⟨by decide, q155, ⟨by decide, by decide, by decide +kernel⟩, q2821⟩
def mq12170 : Mq := (⟨"OldWeatherModel", "widthsBy", "(IIII)I"⟩, prog_31_method_139_code, 11, (some (Jvm.ClassFile.FieldType.int)), [])
theorem mk12170 : MX 12170 mq12170 := ⟨iX7_widthsBy, rfl, by decide, kX7_widthsBy, by decide +kernel, rfl, rfl, rfl, (fun h => nomatch h), rfl, by decide +kernel, q2826, trivial⟩
theorem mc12170 : CALL0 4 mq12170 := ⟨by decide, q155, ⟨by decide, by decide, by decide +kernel⟩, q2826⟩
def mq12171 : Mq := (⟨"OldWeatherModel", "seal", "(II)I"⟩, prog_31_method_145_code, 3, (some (Jvm.ClassFile.FieldType.int)), [])
theorem mk12171 : MX 12171 mq12171 := ⟨iX7_seal, rfl, by decide, kX7_seal, by decide +kernel, rfl, rfl, rfl, (fun h => nomatch h), rfl, by decide +kernel, q2830, trivial⟩
theorem mc12171 : CALL0 2 mq12171 := ⟨by decide, q155, ⟨by decide, by decide, by decide +kernel⟩, q2830⟩
def mq12172 : Mq := (⟨"OldWeatherModel", "isMonth", "(II)Z"⟩, prog_31_method_142_code, 2, (some (Jvm.ClassFile.FieldType.boolean)), [])
theorem mk12172 : MX 12172 mq12172 := ⟨iX7_isMonth, rfl, by decide, kX7_isMonth, by decide +kernel, rfl, rfl, rfl, (fun h => nomatch h), rfl, by decide +kernel, q2833, trivial⟩
theorem mc12172 : CALL0 2 mq12172 := ⟨by decide, q155, ⟨by decide, by decide, by decide +kernel⟩, q2833⟩
def mq12173 : Mq := (⟨"OldWeatherModel", "addMonth", "(II)V"⟩, prog_31_method_144_code, 4, none, [])
theorem mk12173 : MX 12173 mq12173 := ⟨iX7_addMonth, rfl, by decide, kX7_addMonth, by decide +kernel, rfl, rfl, rfl, (fun h => nomatch h), rfl, by decide +kernel, q2837, trivial⟩
theorem mc12173 : CALL0 2 mq12173 := ⟨by decide, q155, ⟨by decide, by decide, by decide +kernel⟩, q2837⟩
def mq12174 : Mq := (⟨"OldWeatherModel", "isOf", "(III)Z"⟩, prog_31_method_143_code, 4, (some (Jvm.ClassFile.FieldType.boolean)), [])
theorem mk12174 : MX 12174 mq12174 := ⟨iX7_isOf, rfl, by decide, kX7_isOf, by decide +kernel, rfl, rfl, rfl, (fun h => nomatch h), rfl, by decide +kernel, q2841, trivial⟩
theorem mc12174 : CALL0 3 mq12174 := ⟨by decide, q155, ⟨by decide, by decide, by decide +kernel⟩, q2841⟩
def mq12175 : Mq := (⟨"OldWeatherModel", "sealAt", "(II)I"⟩, prog_31_method_141_code, 2, (some (Jvm.ClassFile.FieldType.int)), [])
theorem mk12175 : MX 12175 mq12175 := ⟨iX7_sealAt, rfl, by decide, kX7_sealAt, by decide +kernel, rfl, rfl, rfl, (fun h => nomatch h), rfl, by decide +kernel, q2844, trivial⟩
theorem mc12175 : CALL0 2 mq12175 := ⟨by decide, q155, ⟨by decide, by decide, by decide +kernel⟩, q2844⟩
def mq12176 : Mq := (⟨"OldWeatherModel", "alter", "(II)I"⟩, prog_31_method_146_code, 3, (some (Jvm.ClassFile.FieldType.int)), [])
theorem mk12176 : MX 12176 mq12176 := ⟨iX7_alter, rfl, by decide, kX7_alter, by decide +kernel, rfl, rfl, rfl, (fun h => nomatch h), rfl, by decide +kernel, q2848, trivial⟩
theorem mc12176 : CALL0 2 mq12176 := ⟨by decide, q155, ⟨by decide, by decide, by decide +kernel⟩, q2848⟩
def mq12177 : Mq := (⟨"OldWeatherModel", "found", "(II)I"⟩, prog_31_method_147_code, 8, (some (Jvm.ClassFile.FieldType.int)), [])
theorem mk12177 : MX 12177 mq12177 := ⟨iX7_found, rfl, by decide, kX7_found, by decide +kernel, rfl, rfl, rfl, (fun h => nomatch h), rfl, by decide +kernel, q2853, trivial⟩
theorem mc12177 : CALL0 2 mq12177 := ⟨by decide, q155, ⟨by decide, by decide, by decide +kernel⟩, q2853⟩
def mq12178 : Mq := (⟨"OldWeatherModel", "count", "(I)I"⟩, prog_31_method_148_code, 2, (some (Jvm.ClassFile.FieldType.int)), [])
theorem mk12178 : MX 12178 mq12178 := ⟨iX7_count, rfl, by decide, kX7_count, by decide +kernel, rfl, rfl, rfl, (fun h => nomatch h), rfl, by decide +kernel, q2857, trivial⟩
theorem mc12178 : CALL0 1 mq12178 := ⟨by decide, q155, ⟨by decide, by decide, by decide +kernel⟩, q2857⟩
def mq12179 : Mq := (⟨"OldWeatherModel", "status", "()I"⟩, prog_31_method_149_code, 1, (some (Jvm.ClassFile.FieldType.int)), [])
theorem mk12179 : MX 12179 mq12179 := ⟨iX7_status, rfl, by decide, kX7_status, by decide +kernel, rfl, rfl, rfl, (fun h => nomatch h), rfl, by decide +kernel, q2861, trivial⟩
theorem mc12179 : CALL0 0 mq12179 := ⟨by decide, q155, ⟨by decide, by decide, by decide +kernel⟩, q2861⟩
def mq12288 : Mq := (⟨"OldWeather$Reading", "<init>", "(IIIIII)V"⟩, prog_20_method_1_code, 7, none, [])
theorem mk12288 : MX 12288 mq12288 := ⟨iX8_init, rfl, by decide, kX8_init, by decide +kernel, rfl, rfl, rfl, (fun _ => rfl), rfl, by decide +kernel, q913, trivial⟩
theorem mc12288 : CALL0 6 mq12288 := ⟨by decide, q157, ⟨by decide, by decide, by decide +kernel⟩, q913⟩
def mq12544 : Mq := (⟨"OldWeather$Word", "<init>", "(IIIIII)V"⟩, prog_29_method_1_code, 7, none, [])
theorem mk12544 : MX 12544 mq12544 := ⟨iX9_init, rfl, by decide, kX9_init, by decide +kernel, rfl, rfl, rfl, (fun _ => rfl), rfl, by decide +kernel, q910, trivial⟩
theorem mc12544 : CALL0 6 mq12544 := ⟨by decide, q158, ⟨by decide, by decide, by decide +kernel⟩, q910⟩
def mq12545 : Mq := (⟨"OldWeather$Word", "kind", "()I"⟩, prog_29_method_2_code, 1, (some (Jvm.ClassFile.FieldType.int)), [])
theorem mk12545 : MX 12545 mq12545 := ⟨iX9_kind, rfl, by decide, kX9_kind, by decide +kernel, rfl, rfl, rfl, (fun h => nomatch h), rfl, by decide +kernel, q1164, trivial⟩
theorem mc12545 : CALL0 0 mq12545 := ⟨by decide, q158, ⟨by decide, by decide, by decide +kernel⟩, q1164⟩
theorem mr_0_0 : MOKr 0 (ownS 0) 1 (1, 2, [(0, 20000)]) := fun _ => (List.forall_mem_cons.mpr ⟨(fun h => absurd h (by decide)), (fun _ h => nomatch h)⟩)
theorem mr_0 : ∀ q ∈ ([(1, (1, 2, [(0, 20000)]))] : List (Nat × (Nat × Nat × List (Nat × Nat)))), MOKr 0 (ownS 0) q.1 q.2 := (List.forall_mem_cons.mpr ⟨mr_0_0, (fun _ h => nomatch h)⟩)
theorem mr_1_0 : MOKr 1 (ownS 1) 1 (1, 2, [(0, 0)]) := fun _ => (List.forall_mem_cons.mpr ⟨(fun _ => ⟨mq0, mk0, ⟨mc0, rfl, q215, rfl, rfl, Or.inl q214⟩⟩), (fun _ h => nomatch h)⟩)
theorem mr_1 : ∀ q ∈ ([(1, (1, 2, [(0, 0)]))] : List (Nat × (Nat × Nat × List (Nat × Nat)))), MOKr 1 (ownS 1) q.1 q.2 := (List.forall_mem_cons.mpr ⟨mr_1_0, (fun _ h => nomatch h)⟩)
theorem mr_2 : ∀ q ∈ ([(7, (2, 2, [(0, 4608)]))] : List (Nat × (Nat × Nat × List (Nat × Nat)))), MOKr 2 (ownS 2) q.1 q.2 := fun _ _ h => nomatch h
theorem mr_3 : ∀ q ∈ ([(335, (1, 2, [(0, 769)])), (492, (1, 2, [(0, 771)])), (495, (2, 0, [(0, 1792)])), (498, (2, 0, [(0, 2048)])), (1059, (3, 0, [(0, 1280)]))] : List (Nat × (Nat × Nat × List (Nat × Nat)))), MOKr 3 (ownS 3) q.1 q.2 := fun _ _ h => nomatch h
theorem mr_4_0 : MOKr 4 (ownS 4) 105 (3, 0, [(0, 1280)]) := fun _ => (List.forall_mem_cons.mpr ⟨(fun _ => ⟨mq1280, mk1280, ⟨mc1280, q1146, rfl, Or.inl q1145⟩⟩), (fun _ h => nomatch h)⟩)
theorem mr_4 : ∀ q ∈ ([(105, (3, 0, [(0, 1280)]))] : List (Nat × (Nat × Nat × List (Nat × Nat)))), MOKr 4 (ownS 4) q.1 q.2 := (List.forall_mem_cons.mpr ⟨mr_4_0, (fun _ h => nomatch h)⟩)
theorem mr_5 : ∀ q ∈ ([] : List (Nat × (Nat × Nat × List (Nat × Nat)))), MOKr 5 (ownS 5) q.1 q.2 := (fun _ h => nomatch h)
theorem mr_6 : ∀ q ∈ ([(7, (2, 2, [(0, 4352)]))] : List (Nat × (Nat × Nat × List (Nat × Nat)))), MOKr 6 (ownS 6) q.1 q.2 := fun _ _ h => nomatch h
theorem mr_7 : ∀ q ∈ ([(9, (2, 0, [(0, 772)]))] : List (Nat × (Nat × Nat × List (Nat × Nat)))), MOKr 7 (ownS 7) q.1 q.2 := fun _ _ h => nomatch h
theorem mr_8 : ∀ q ∈ ([(48, (1, 0, [(0, 2050)])), (67, (2, 0, [(0, 2049)])), (71, (2, 0, [(0, 2051)])), (414, (2, 0, [(0, 772)]))] : List (Nat × (Nat × Nat × List (Nat × Nat)))), MOKr 8 (ownS 8) q.1 q.2 := fun _ _ h => nomatch h
theorem mr_9 : ∀ q ∈ ([] : List (Nat × (Nat × Nat × List (Nat × Nat)))), MOKr 9 (ownS 9) q.1 q.2 := (fun _ h => nomatch h)
theorem mr_10 : ∀ q ∈ ([] : List (Nat × (Nat × Nat × List (Nat × Nat)))), MOKr 10 (ownS 10) q.1 q.2 := fun _ _ h => nomatch h
theorem mr_11_0 : MOKr 11 (ownS 11) 1 (1, 2, [(0, 256)]) := fun _ => (List.forall_mem_cons.mpr ⟨(fun _ => ⟨mq256, mk256, ⟨mc256, rfl, q212, rfl, rfl, Or.inl q211⟩⟩), (fun _ h => nomatch h)⟩)
theorem mr_11_1 : MOKr 11 (ownS 11) 42 (1, 1, [(16, 2819)]) := fun _ => (List.forall_mem_cons.mpr ⟨(fun _ => ⟨mq2819, mk2819, Or.inr ⟨rfl, rfl⟩⟩), (fun _ h => nomatch h)⟩)
theorem mr_11_2 : MOKr 11 (ownS 11) 66 (2, 0, [(0, 20002)]) := fun _ => (List.forall_mem_cons.mpr ⟨(fun h => absurd h (by decide)), (fun _ h => nomatch h)⟩)
theorem mr_11_3 : MOKr 11 (ownS 11) 69 (2, 1, [(16, 2820)]) := fun _ => (List.forall_mem_cons.mpr ⟨(fun _ => ⟨mq2820, mk2820, Or.inl ⟨mc2820, ⟨by decide, (RJ2, TJ2, 3), rfl, rfl⟩, q828, Or.inl ⟨qs2, Or.inl ⟨rfl, Or.inl q826⟩⟩⟩⟩), (fun _ h => nomatch h)⟩)
theorem mr_11_4 : MOKr 11 (ownS 11) 73 (3, 0, [(0, 3840)]) := fun _ => (List.forall_mem_cons.mpr ⟨(fun _ => ⟨mq3840, mk3840, ⟨mc3840, q833, rfl, Or.inl q832⟩⟩), (fun _ h => nomatch h)⟩)
theorem mr_11_5 : MOKr 11 (ownS 11) 79 (2, 0, [(0, 3584)]) := fun _ => (List.forall_mem_cons.mpr ⟨(fun _ => ⟨mq3584, mk3584, ⟨mc3584, q741, rfl, Or.inl q840⟩⟩), (fun _ h => nomatch h)⟩)
theorem mr_11_6 : MOKr 11 (ownS 11) 112 (5, 0, [(0, 20001)]) := fun _ => (List.forall_mem_cons.mpr ⟨(fun h => absurd h (by decide)), (fun _ h => nomatch h)⟩)
theorem mr_11_7 : MOKr 11 (ownS 11) 118 (2, 0, [(0, 1024)]) := fun _ => (List.forall_mem_cons.mpr ⟨(fun _ => ⟨mq1024, mk1024, ⟨mc1024, q1143, rfl, Or.inl q1142⟩⟩), (fun _ h => nomatch h)⟩)
theorem mr_11_8 : MOKr 11 (ownS 11) 123 (2, 1, [(16, 2826)]) := fun _ => (List.forall_mem_cons.mpr ⟨(fun _ => ⟨mq2826, mk2826, Or.inl ⟨mc2826, ⟨by decide, (RJ2, TJ2, 3), rfl, rfl⟩, q1149, Or.inl ⟨q1150, Or.inl ⟨rfl, Or.inl q1148⟩⟩⟩⟩), (fun _ h => nomatch h)⟩)
theorem mr_11_9 : MOKr 11 (ownS 11) 129 (1, 1, [(16, 2824)]) := fun _ => (List.forall_mem_cons.mpr ⟨(fun _ => ⟨mq2824, mk2824, Or.inl ⟨mc2824, ⟨by decide, (RJ2, TJ2, 3), rfl, rfl⟩, q966, Or.inl ⟨qs10, Or.inl ⟨rfl, Or.inl q964⟩⟩⟩⟩), (fun _ h => nomatch h)⟩)
theorem mr_11_10 : MOKr 11 (ownS 11) 131 (4, 1, [(16, 2823)]) := fun _ => (List.forall_mem_cons.mpr ⟨(fun _ => ⟨mq2823, mk2823, Or.inl ⟨mc2823, ⟨by decide, (RJ2, TJ2, 3), rfl, rfl⟩, q962, Or.inl ⟨qs9, Or.inl ⟨rfl, Or.inl q960⟩⟩⟩⟩), (fun _ h => nomatch h)⟩)
theorem mr_11 : ∀ q ∈ ([(1, (1, 2, [(0, 256)])), (42, (1, 1, [(16, 2819)])), (66, (2, 0, [(0, 20002)])), (69, (2, 1, [(16, 2820)])), (73, (3, 0, [(0, 3840)])), (79, (2, 0, [(0, 3584)])), (112, (5, 0, [(0, 20001)])), (118, (2, 0, [(0, 1024)])), (123, (2, 1, [(16, 2826)])), (129, (1, 1, [(16, 2824)])), (131, (4, 1, [(16, 2823)]))] : List (Nat × (Nat × Nat × List (Nat × Nat)))), MOKr 11 (ownS 11) q.1 q.2 := (List.forall_mem_cons.mpr ⟨mr_11_0, (List.forall_mem_cons.mpr ⟨mr_11_1, (List.forall_mem_cons.mpr ⟨mr_11_2, (List.forall_mem_cons.mpr ⟨mr_11_3, (List.forall_mem_cons.mpr ⟨mr_11_4, (List.forall_mem_cons.mpr ⟨mr_11_5, (List.forall_mem_cons.mpr ⟨mr_11_6, (List.forall_mem_cons.mpr ⟨mr_11_7, (List.forall_mem_cons.mpr ⟨mr_11_8, (List.forall_mem_cons.mpr ⟨mr_11_9, (List.forall_mem_cons.mpr ⟨mr_11_10, (fun _ h => nomatch h)⟩)⟩)⟩)⟩)⟩)⟩)⟩)⟩)⟩)⟩)⟩)
theorem mr_12 : ∀ q ∈ ([(1, (1, 2, [(0, 20000)]))] : List (Nat × (Nat × Nat × List (Nat × Nat)))), MOKr 12 (ownS 12) q.1 q.2 := fun _ _ h => nomatch h
theorem mr_13 : ∀ q ∈ ([(7, (2, 2, [(0, 3074)])), (16, (5, 2, [(0, 3073)]))] : List (Nat × (Nat × Nat × List (Nat × Nat)))), MOKr 13 (ownS 13) q.1 q.2 := fun _ _ h => nomatch h
theorem mr_14 : ∀ q ∈ ([] : List (Nat × (Nat × Nat × List (Nat × Nat)))), MOKr 14 (ownS 14) q.1 q.2 := (fun _ h => nomatch h)
theorem mr_15_0 : MOKr 15 (ownS 15) 194 (2, 0, [(0, 3584)]) := fun _ => (List.forall_mem_cons.mpr ⟨(fun _ => ⟨mq3584, mk3584, ⟨mc3584, q741, rfl, Or.inl q835⟩⟩), (fun _ h => nomatch h)⟩)
theorem mr_15_1 : MOKr 15 (ownS 15) 201 (2, 0, [(0, 3841)]) := fun _ => (List.forall_mem_cons.mpr ⟨(fun _ => ⟨mq3841, mk3841, ⟨mc3841, q838, rfl, Or.inl q837⟩⟩), (fun _ h => nomatch h)⟩)
theorem mr_15 : ∀ q ∈ ([(194, (2, 0, [(0, 3584)])), (201, (2, 0, [(0, 3841)]))] : List (Nat × (Nat × Nat × List (Nat × Nat)))), MOKr 15 (ownS 15) q.1 q.2 := (List.forall_mem_cons.mpr ⟨mr_15_0, (List.forall_mem_cons.mpr ⟨mr_15_1, (fun _ h => nomatch h)⟩)⟩)
theorem mr_16 : ∀ q ∈ ([(150, (5, 0, [(0, 20001)])), (300, (3, 0, [(0, 4097)])), (304, (2, 0, [(0, 3585)]))] : List (Nat × (Nat × Nat × List (Nat × Nat)))), MOKr 16 (ownS 16) q.1 q.2 := fun _ _ h => nomatch h
theorem mr_17 : ∀ q ∈ ([(7, (2, 2, [(0, 3329)]))] : List (Nat × (Nat × Nat × List (Nat × Nat)))), MOKr 17 (ownS 17) q.1 q.2 := fun _ _ h => nomatch h
theorem mr_18 : ∀ q ∈ ([(7, (2, 2, [(0, 4352)]))] : List (Nat × (Nat × Nat × List (Nat × Nat)))), MOKr 18 (ownS 18) q.1 q.2 := fun _ _ h => nomatch h
theorem mr_19 : ∀ q ∈ ([(9, (1, 2, [(0, 5120)])), (12, (1, 2, [(0, 12032)])), (13, (5, 1, [(10, 5121)])), (17, (5, 1, [(36, 12037)])), (18, (3, 1, [(10, 5129)])), (22, (3, 1, [(36, 12043)])), (23, (2, 1, [(10, 5137)])), (27, (2, 1, [(36, 12045)])), (28, (5, 1, [(10, 5138)])), (31, (5, 1, [(36, 12047)])), (32, (4, 1, [(10, 5140)])), (36, (4, 1, [(36, 12049)])), (37, (3, 1, [(10, 5141)])), (40, (3, 1, [(36, 12050)])), (41, (3, 1, [(10, 5142)])), (44, (3, 1, [(36, 12052)])), (45, (7, 1, [(10, 5145)])), (49, (7, 1, [(36, 12055)])), (50, (7, 1, [(10, 5149)])), (53, (7, 1, [(36, 12060)])), (54, (7, 1, [(10, 5150)])), (57, (7, 1, [(36, 12061)])), (58, (8, 1, [(10, 5151)])), (62, (8, 1, [(36, 12062)])), (63, (7, 1, [(10, 5152)])), (66, (7, 1, [(36, 12063)])), (67, (7, 1, [(10, 5155)])), (70, (7, 1, [(36, 12070)])), (71, (2, 1, [(10, 5144)])), (74, (2, 1, [(36, 12054)])), (75, (3, 1, [(10, 5154)])), (78, (3, 1, [(36, 12069)])), (79, (3, 1, [(10, 5158)])), (82, (3, 1, [(36, 12064)])), (83, (3, 1, [(10, 5160)])), (86, (3, 1, [(36, 12068)])), (87, (6, 1, [(10, 5161)])), (91, (6, 1, [(36, 12074)])), (92, (2, 1, [(10, 5163)])), (95, (2, 1, [(36, 12076)])), (96, (2, 1, [(10, 5164)])), (99, (2, 1, [(36, 12078)])), (100, (1, 1, [(10, 5165)])), (104, (1, 1, [(36, 12077)])), (105, (4, 1, [(10, 5166)])), (108, (4, 1, [(36, 12106)])), (109, (4, 1, [(10, 5174)])), (112, (4, 1, [(36, 12113)])), (113, (4, 1, [(10, 5167)])), (116, (4, 1, [(36, 12134)])), (117, (5, 1, [(10, 5168)])), (120, (5, 1, [(36, 12135)])), (121, (4, 1, [(10, 5179)])), (124, (4, 1, [(36, 12136)])), (125, (3, 1, [(10, 5180)])), (128, (3, 1, [(36, 12137)])), (129, (3, 1, [(10, 5181)])), (132, (3, 1, [(36, 12138)])), (133, (5, 1, [(10, 5182)])), (136, (5, 1, [(36, 12140)])), (137, (5, 1, [(10, 5186)])), (140, (5, 1, [(36, 12147)])), (141, (6, 1, [(10, 5187)])), (144, (6, 1, [(36, 12148)])), (145, (2, 1, [(10, 5188)])), (148, (2, 1, [(36, 12149)])), (149, (1, 1, [(10, 5189)])), (152, (1, 1, [(36, 12150)])), (153, (2, 1, [(10, 5190)])), (156, (2, 1, [(36, 12151)])), (157, (2, 1, [(10, 5198)])), (160, (2, 1, [(36, 12159)])), (161, (5, 1, [(10, 5199)])), (164, (5, 1, [(36, 12161)])), (165, (3, 1, [(10, 5200)])), (168, (3, 1, [(36, 12160)])), (169, (5, 1, [(10, 5201)])), (172, (5, 1, [(36, 12162)])), (173, (7, 1, [(10, 5204)])), (176, (7, 1, [(36, 12166)])), (177, (6, 1, [(10, 5205)])), (180, (6, 1, [(36, 12167)])), (181, (6, 1, [(10, 5206)])), (184, (6, 1, [(36, 12168)])), (185, (7, 1, [(10, 5207)])), (188, (7, 1, [(36, 12169)])), (189, (3, 1, [(10, 5210)])), (192, (3, 1, [(36, 12171)])), (193, (3, 1, [(10, 5215)])), (196, (3, 1, [(36, 12176)])), (197, (3, 1, [(10, 5216)])), (200, (3, 1, [(36, 12177)])), (201, (2, 1, [(10, 5132)])), (204, (2, 1, [(36, 12033)])), (205, (2, 1, [(10, 5135)])), (208, (2, 1, [(36, 12036)])), (209, (2, 1, [(10, 5217)])), (212, (2, 1, [(36, 12178)])), (213, (1, 1, [(10, 5218)])), (216, (1, 1, [(36, 12179)]))] : List (Nat × (Nat × Nat × List (Nat × Nat)))), MOKr 19 (ownS 19) q.1 q.2 := fun _ _ h => nomatch h
theorem mr_20_0 : MOKr 20 (ownS 20) 3 (1, 2, [(0, 20000)]) := fun _ => (List.forall_mem_cons.mpr ⟨(fun h => absurd h (by decide)), (fun _ h => nomatch h)⟩)
theorem mr_20_1 : MOKr 20 (ownS 20) 11 (1, 2, [(0, 5376)]) := fun _ => (List.forall_mem_cons.mpr ⟨(fun _ => ⟨mq5376, mk5376, ⟨mc5376, rfl, q203, rfl, rfl, Or.inl q202⟩⟩), (fun _ h => nomatch h)⟩)
theorem mr_20_2 : MOKr 20 (ownS 20) 121 (2, 1, [(10, 5134)]) := fun _ => (List.forall_mem_cons.mpr ⟨(fun _ => ⟨mq5134, mk5134, Or.inl ⟨mc5134, ⟨by decide, (RX0, TX0, 51), rfl, rfl⟩, q848, Or.inl ⟨qs3, Or.inl ⟨rfl, Or.inl q846⟩⟩⟩⟩), (fun _ h => nomatch h)⟩)
theorem mr_20_3 : MOKr 20 (ownS 20) 125 (3, 0, [(0, 5122)]) := fun _ => (List.forall_mem_cons.mpr ⟨(fun _ => ⟨mq5122, mk5122, ⟨mc5122, q712, rfl, Or.inl q711⟩⟩), (fun _ h => nomatch h)⟩)
theorem mr_20_4 : MOKr 20 (ownS 20) 130 (2, 0, [(0, 5125)]) := fun _ => (List.forall_mem_cons.mpr ⟨(fun _ => ⟨mq5125, mk5125, ⟨mc5125, q721, rfl, Or.inl q720⟩⟩), (fun _ h => nomatch h)⟩)
theorem mr_20_5 : MOKr 20 (ownS 20) 134 (3, 0, [(0, 5124)]) := fun _ => (List.forall_mem_cons.mpr ⟨(fun _ => ⟨mq5124, mk5124, ⟨mc5124, q718, rfl, Or.inl q717⟩⟩), (fun _ h => nomatch h)⟩)
theorem mr_20_6 : MOKr 20 (ownS 20) 138 (2, 0, [(0, 5127)]) := fun _ => (List.forall_mem_cons.mpr ⟨(fun _ => ⟨mq5127, mk5127, ⟨mc5127, q727, rfl, Or.inl q726⟩⟩), (fun _ h => nomatch h)⟩)
theorem mr_20_7 : MOKr 20 (ownS 20) 142 (4, 0, [(0, 5123)]) := fun _ => (List.forall_mem_cons.mpr ⟨(fun _ => ⟨mq5123, mk5123, ⟨mc5123, q715, rfl, Or.inl q714⟩⟩), (fun _ h => nomatch h)⟩)
theorem mr_20_8 : MOKr 20 (ownS 20) 146 (4, 0, [(0, 5126)]) := fun _ => (List.forall_mem_cons.mpr ⟨(fun _ => ⟨mq5126, mk5126, ⟨mc5126, q724, rfl, Or.inl q723⟩⟩), (fun _ h => nomatch h)⟩)
theorem mr_20_9 : MOKr 20 (ownS 20) 150 (1, 0, [(0, 5128)]) := fun _ => (List.forall_mem_cons.mpr ⟨(fun _ => ⟨mq5128, mk5128, ⟨mc5128, q730, rfl, Or.inl q729⟩⟩), (fun _ h => nomatch h)⟩)
theorem mr_20_10 : MOKr 20 (ownS 20) 154 (2, 0, [(0, 3584)]) := fun _ => (List.forall_mem_cons.mpr ⟨(fun _ => ⟨mq3584, mk3584, ⟨mc3584, q741, rfl, Or.inl q740⟩⟩), (fun _ h => nomatch h)⟩)
theorem mr_20_11 : MOKr 20 (ownS 20) 159 (2, 0, [(0, 5130)]) := fun _ => (List.forall_mem_cons.mpr ⟨(fun _ => ⟨mq5130, mk5130, ⟨mc5130, q738, rfl, Or.inl q737⟩⟩), (fun _ h => nomatch h)⟩)
theorem mr_20_12 : MOKr 20 (ownS 20) 162 (2, 0, [(0, 5131)]) := fun _ => (List.forall_mem_cons.mpr ⟨(fun _ => ⟨mq5131, mk5131, ⟨mc5131, q744, rfl, Or.inl q743⟩⟩), (fun _ h => nomatch h)⟩)
theorem mr_20_13 : MOKr 20 (ownS 20) 165 (2, 1, [(10, 5133)]) := fun _ => (List.forall_mem_cons.mpr ⟨(fun _ => ⟨mq5133, mk5133, Or.inl ⟨mc5133, ⟨by decide, (RX0, TX0, 51), rfl, rfl⟩, q752, Or.inl ⟨qs1, Or.inl ⟨rfl, Or.inl q750⟩⟩⟩⟩), (fun _ h => nomatch h)⟩)
theorem mr_20_14 : MOKr 20 (ownS 20) 168 (2, 1, [(11, 5377)]) := fun _ => (List.forall_mem_cons.mpr ⟨(fun _ => ⟨mq5377, mk5377, Or.inl ⟨mc5377, ⟨by decide, (RX1, TX1, 20), rfl, rfl⟩, q755, Or.inl ⟨q756, Or.inl ⟨rfl, Or.inl q754⟩⟩⟩⟩), (fun _ h => nomatch h)⟩)
theorem mr_20_15 : MOKr 20 (ownS 20) 172 (2, 1, [(10, 5136)]) := fun _ => (List.forall_mem_cons.mpr ⟨(fun _ => ⟨mq5136, mk5136, Or.inl ⟨mc5136, ⟨by decide, (RX0, TX0, 51), rfl, rfl⟩, q856, Or.inl ⟨qs4, Or.inl ⟨rfl, Or.inl q854⟩⟩⟩⟩), (fun _ h => nomatch h)⟩)
theorem mr_20_16 : MOKr 20 (ownS 20) 192 (2, 1, [(10, 5139)]) := fun _ => (List.forall_mem_cons.mpr ⟨(fun _ => ⟨mq5139, mk5139, Or.inl ⟨mc5139, ⟨by decide, (RX0, TX0, 51), rfl, rfl⟩, q868, Or.inl ⟨qs5, Or.inl ⟨rfl, Or.inl q866⟩⟩⟩⟩), (fun _ h => nomatch h)⟩)
theorem mr_20_17 : MOKr 20 (ownS 20) 208 (2, 1, [(10, 5143)]) := fun _ => (List.forall_mem_cons.mpr ⟨(fun _ => ⟨mq5143, mk5143, Or.inl ⟨mc5143, ⟨by decide, (RX0, TX0, 51), rfl, rfl⟩, q885, Or.inl ⟨qs6, Or.inl ⟨rfl, Or.inl q883⟩⟩⟩⟩), (fun _ h => nomatch h)⟩)
theorem mr_20_18 : MOKr 20 (ownS 20) 211 (1, 0, [(0, 5147)]) := fun _ => (List.forall_mem_cons.mpr ⟨(fun _ => ⟨mq5147, mk5147, ⟨mc5147, q900, rfl, Or.inl q899⟩⟩), (fun _ h => nomatch h)⟩)
theorem mr_20_19 : MOKr 20 (ownS 20) 218 (1, 1, [(16, 2821)]) := fun _ => (List.forall_mem_cons.mpr ⟨(fun _ => ⟨mq2821, mk2821, Or.inl ⟨mc2821, ⟨by decide, (RJ2, TJ2, 3), rfl, rfl⟩, q903, Or.inl ⟨q904, Or.inl ⟨rfl, Or.inl q902⟩⟩⟩⟩), (fun _ h => nomatch h)⟩)
theorem mr_20_20 : MOKr 20 (ownS 20) 235 (2, 1, [(16, 2822)]) := fun _ => (List.forall_mem_cons.mpr ⟨(fun _ => ⟨mq2822, mk2822, Or.inl ⟨mc2822, ⟨by decide, (RJ2, TJ2, 3), rfl, rfl⟩, q957, Or.inl ⟨q958, Or.inl ⟨rfl, Or.inl q956⟩⟩⟩⟩), (fun _ h => nomatch h)⟩)
theorem mr_20_21 : MOKr 20 (ownS 20) 239 (6, 1, [(10, 5146)]) := fun _ => (List.forall_mem_cons.mpr ⟨(fun _ => ⟨mq5146, mk5146, Or.inl ⟨mc5146, ⟨by decide, (RX0, TX0, 51), rfl, rfl⟩, q897, Or.inl ⟨qs7, Or.inl ⟨rfl, Or.inl q895⟩⟩⟩⟩), (fun _ h => nomatch h)⟩)
theorem mr_20_22 : MOKr 20 (ownS 20) 245 (7, 2, [(0, 12544)]) := fun _ => (List.forall_mem_cons.mpr ⟨(fun _ => ⟨mq12544, mk12544, ⟨mc12544, rfl, q909, rfl, rfl, Or.inl q908⟩⟩), (fun _ h => nomatch h)⟩)
theorem mr_20_23 : MOKr 20 (ownS 20) 248 (3, 1, [(10, 5148)]) := fun _ => (List.forall_mem_cons.mpr ⟨(fun _ => ⟨mq5148, mk5148, Or.inl ⟨mc5148, ⟨by decide, (RX0, TX0, 51), rfl, rfl⟩, q954, Or.inl ⟨qs8, Or.inl ⟨rfl, Or.inl q952⟩⟩⟩⟩), (fun _ h => nomatch h)⟩)
theorem mr_20_24 : MOKr 20 (ownS 20) 254 (7, 2, [(0, 5632)]) := fun _ => (List.forall_mem_cons.mpr ⟨(fun _ => ⟨mq5632, mk5632, ⟨mc5632, rfl, q975, rfl, rfl, Or.inl q974⟩⟩), (fun _ h => nomatch h)⟩)
theorem mr_20_25 : MOKr 20 (ownS 20) 257 (7, 2, [(0, 5888)]) := fun _ => (List.forall_mem_cons.mpr ⟨(fun _ => ⟨mq5888, mk5888, ⟨mc5888, rfl, q992, rfl, rfl, Or.inl q991⟩⟩), (fun _ h => nomatch h)⟩)
theorem mr_20_26 : MOKr 20 (ownS 20) 260 (8, 2, [(0, 6144)]) := fun _ => (List.forall_mem_cons.mpr ⟨(fun _ => ⟨mq6144, mk6144, ⟨mc6144, rfl, q1009, rfl, rfl, Or.inl q1008⟩⟩), (fun _ h => nomatch h)⟩)
theorem mr_20_27 : MOKr 20 (ownS 20) 263 (2, 1, [(10, 5153)]) := fun _ => (List.forall_mem_cons.mpr ⟨(fun _ => ⟨mq5153, mk5153, Or.inl ⟨mc5153, ⟨by decide, (RX0, TX0, 51), rfl, rfl⟩, q1029, Or.inl ⟨qs11, Or.inl ⟨rfl, Or.inl q1027⟩⟩⟩⟩), (fun _ h => nomatch h)⟩)
theorem mr_20_28 : MOKr 20 (ownS 20) 268 (8, 2, [(0, 6400)]) := fun _ => (List.forall_mem_cons.mpr ⟨(fun _ => ⟨mq6400, mk6400, ⟨mc6400, rfl, q1034, rfl, rfl, Or.inl q1033⟩⟩), (fun _ h => nomatch h)⟩)
theorem mr_20_29 : MOKr 20 (ownS 20) 283 (3, 2, [(0, 6656)]) := fun _ => (List.forall_mem_cons.mpr ⟨(fun _ => ⟨mq6656, mk6656, ⟨mc6656, rfl, q1093, rfl, rfl, Or.inl q1092⟩⟩), (fun _ h => nomatch h)⟩)
theorem mr_20_30 : MOKr 20 (ownS 20) 286 (1, 1, [(22, 6657)]) := fun _ => (List.forall_mem_cons.mpr ⟨(fun _ => ⟨mq6657, mk6657, Or.inl ⟨mc6657, ⟨by decide, (RX14, TX14, 2), rfl, rfl⟩, q1105, Or.inl ⟨q1106, Or.inl ⟨rfl, Or.inl q1104⟩⟩⟩⟩), (fun _ h => nomatch h)⟩)
theorem mr_20_31 : MOKr 20 (ownS 20) 290 (1, 1, [(22, 6658)]) := fun _ => (List.forall_mem_cons.mpr ⟨(fun _ => ⟨mq6658, mk6658, Or.inl ⟨mc6658, ⟨by decide, (RX14, TX14, 2), rfl, rfl⟩, q1109, Or.inl ⟨q1110, Or.inl ⟨rfl, Or.inl q1108⟩⟩⟩⟩), (fun _ h => nomatch h)⟩)
theorem mr_20_32 : MOKr 20 (ownS 20) 294 (1, 0, [(0, 5156)]) := fun _ => (List.forall_mem_cons.mpr ⟨(fun _ => ⟨mq5156, mk5156, ⟨mc5156, q1119, rfl, Or.inl q1118⟩⟩), (fun _ h => nomatch h)⟩)
theorem mr_20_33 : MOKr 20 (ownS 20) 298 (7, 1, [(10, 5157)]) := fun _ => (List.forall_mem_cons.mpr ⟨(fun _ => ⟨mq5157, mk5157, Or.inl ⟨mc5157, ⟨by decide, (RX0, TX0, 51), rfl, rfl⟩, q1128, Or.inl ⟨qs12, Or.inl ⟨rfl, Or.inl q1126⟩⟩⟩⟩), (fun _ h => nomatch h)⟩)
theorem mr_20_34 : MOKr 20 (ownS 20) 304 (2, 1, [(16, 2825)]) := fun _ => (List.forall_mem_cons.mpr ⟨(fun _ => ⟨mq2825, mk2825, Or.inl ⟨mc2825, ⟨by decide, (RJ2, TJ2, 3), rfl, rfl⟩, q1139, Or.inl ⟨q1140, Or.inl ⟨rfl, Or.inl q1138⟩⟩⟩⟩), (fun _ h => nomatch h)⟩)
theorem mr_20_35 : MOKr 20 (ownS 20) 320 (1, 1, [(10, 5159)]) := fun _ => (List.forall_mem_cons.mpr ⟨(fun _ => ⟨mq5159, mk5159, Or.inl ⟨mc5159, ⟨by decide, (RX0, TX0, 51), rfl, rfl⟩, q1136, Or.inl ⟨qs13, Or.inl ⟨rfl, Or.inl q1134⟩⟩⟩⟩), (fun _ h => nomatch h)⟩)
theorem mr_20_36 : MOKr 20 (ownS 20) 323 (1, 2, [(0, 20007)]) := fun _ => (List.forall_mem_cons.mpr ⟨(fun h => absurd h (by decide)), (fun _ h => nomatch h)⟩)
theorem mr_20_37 : MOKr 20 (ownS 20) 333 (2, 1, [(10, 5162)]) := fun _ => (List.forall_mem_cons.mpr ⟨(fun _ => ⟨mq5162, mk5162, Or.inl ⟨mc5162, ⟨by decide, (RX0, TX0, 51), rfl, rfl⟩, q1201, Or.inl ⟨qs14, Or.inl ⟨rfl, Or.inl q1199⟩⟩⟩⟩), (fun _ h => nomatch h)⟩)
theorem mr_20_38 : MOKr 20 (ownS 20) 342 (3, 2, [(0, 6912)]) := fun _ => (List.forall_mem_cons.mpr ⟨(fun _ => ⟨mq6912, mk6912, ⟨mc6912, rfl, q1215, rfl, rfl, Or.inl q1214⟩⟩), (fun _ h => nomatch h)⟩)
theorem mr_20_39 : MOKr 20 (ownS 20) 343 (1, 1, [(23, 6913)]) := fun _ => (List.forall_mem_cons.mpr ⟨(fun _ => ⟨mq6913, mk6913, Or.inl ⟨mc6913, ⟨by decide, (RX15, TX15, 7), rfl, rfl⟩, q1244, Or.inl ⟨q1245, Or.inl ⟨rfl, Or.inl q1243⟩⟩⟩⟩), (fun _ h => nomatch h)⟩)
theorem mr_20_40 : MOKr 20 (ownS 20) 354 (4, 2, [(0, 10240)]) := fun _ => (List.forall_mem_cons.mpr ⟨(fun _ => ⟨mq10240, mk10240, ⟨mc10240, rfl, q1557, rfl, rfl, Or.inl q1556⟩⟩), (fun _ h => nomatch h)⟩)
theorem mr_20_41 : MOKr 20 (ownS 20) 360 (2, 1, [(12, 8193)]) := fun _ => (List.forall_mem_cons.mpr ⟨(fun _ => ⟨mq8193, mk8193, Or.inl ⟨mc8193, ⟨by decide, (RX2, TX2, 7), rfl, rfl⟩, q1583, Or.inl ⟨q1584, Or.inl ⟨rfl, Or.inl q1582⟩⟩⟩⟩), (fun _ h => nomatch h)⟩)
theorem mr_20_42 : MOKr 20 (ownS 20) 388 (3, 1, [(26, 7425)]) := fun _ => (List.forall_mem_cons.mpr ⟨(fun _ => ⟨mq7425, mk7425, Or.inl ⟨mc7425, ⟨by decide, (RX17, TX17, 6), rfl, rfl⟩, q1634, Or.inl ⟨q1635, Or.inr q1633⟩⟩⟩), (fun _ h => nomatch h)⟩)
theorem mr_20_43 : MOKr 20 (ownS 20) 396 (2, 0, [(0, 3587)]) := fun _ => (List.forall_mem_cons.mpr ⟨(fun _ => ⟨mq3587, mk3587, ⟨mc3587, q1743, rfl, Or.inl q1742⟩⟩), (fun _ h => nomatch h)⟩)
theorem mr_20_44 : MOKr 20 (ownS 20) 400 (2, 0, [(0, 3588)]) := fun _ => (List.forall_mem_cons.mpr ⟨(fun _ => ⟨mq3588, mk3588, ⟨mc3588, q1746, rfl, Or.inl q1745⟩⟩), (fun _ h => nomatch h)⟩)
theorem mr_20_45 : MOKr 20 (ownS 20) 405 (6, 1, [(10, 5172)]) := fun _ => (List.forall_mem_cons.mpr ⟨(fun _ => ⟨mq5172, mk5172, Or.inl ⟨mc5172, ⟨by decide, (RX0, TX0, 51), rfl, rfl⟩, q1630, Or.inl ⟨qs39, Or.inl ⟨rfl, Or.inl q1628⟩⟩⟩⟩), (fun _ h => nomatch h)⟩)
theorem mr_20_46 : MOKr 20 (ownS 20) 408 (1, 0, [(0, 5177)]) := fun _ => (List.forall_mem_cons.mpr ⟨(fun _ => ⟨mq5177, mk5177, ⟨mc5177, q1740, rfl, Or.inl q1739⟩⟩), (fun _ h => nomatch h)⟩)
theorem mr_20_47 : MOKr 20 (ownS 20) 427 (3, 1, [(10, 5170)]) := fun _ => (List.forall_mem_cons.mpr ⟨(fun _ => ⟨mq5170, mk5170, Or.inl ⟨mc5170, ⟨by decide, (RX0, TX0, 51), rfl, rfl⟩, q1617, Or.inl ⟨qs36, Or.inl ⟨rfl, Or.inl q1615⟩⟩⟩⟩), (fun _ h => nomatch h)⟩)
theorem mr_20_48 : MOKr 20 (ownS 20) 430 (1, 2, [(0, 20008)]) := fun _ => (List.forall_mem_cons.mpr ⟨(fun h => absurd h (by decide)), (fun _ h => nomatch h)⟩)
theorem mr_20_49 : MOKr 20 (ownS 20) 433 (4, 1, [(10, 5171)]) := fun _ => (List.forall_mem_cons.mpr ⟨(fun _ => ⟨mq5171, mk5171, Or.inl ⟨mc5171, ⟨by decide, (RX0, TX0, 51), rfl, rfl⟩, q1626, Or.inl ⟨qs38, Or.inl ⟨rfl, Or.inl q1730⟩⟩⟩⟩), (fun _ h => nomatch h)⟩)
theorem mr_20_50 : MOKr 20 (ownS 20) 439 (1, 0, [(0, 3586)]) := fun _ => (List.forall_mem_cons.mpr ⟨(fun _ => ⟨mq3586, mk3586, ⟨mc3586, q1733, rfl, Or.inl q1732⟩⟩), (fun _ h => nomatch h)⟩)
theorem mr_20_51 : MOKr 20 (ownS 20) 443 (3, 1, [(10, 5176)]) := fun _ => (List.forall_mem_cons.mpr ⟨(fun _ => ⟨mq5176, mk5176, Or.inl ⟨mc5176, ⟨by decide, (RX0, TX0, 51), rfl, rfl⟩, q1737, Or.inl ⟨qs45, Or.inl ⟨rfl, Or.inl q1735⟩⟩⟩⟩), (fun _ h => nomatch h)⟩)
theorem mr_20_52 : MOKr 20 (ownS 20) 450 (4, 1, [(10, 5173)]) := fun _ => (List.forall_mem_cons.mpr ⟨(fun _ => ⟨mq5173, mk5173, Or.inl ⟨mc5173, ⟨by decide, (RX0, TX0, 51), rfl, rfl⟩, q1689, Or.inl ⟨qs40, Or.inl ⟨rfl, Or.inl q1687⟩⟩⟩⟩), (fun _ h => nomatch h)⟩)
theorem mr_20_53 : MOKr 20 (ownS 20) 463 (2, 1, [(14, 11521)]) := fun _ => (List.forall_mem_cons.mpr ⟨(fun _ => ⟨mq11521, mk11521, Or.inl ⟨mc11521, ⟨by decide, (RX5, TX5, 7), rfl, rfl⟩, q1603, Or.inl ⟨q1604, Or.inl ⟨rfl, Or.inl q1602⟩⟩⟩⟩), (fun _ h => nomatch h)⟩)
theorem mr_20_54 : MOKr 20 (ownS 20) 467 (4, 1, [(14, 11524)]) := fun _ => (List.forall_mem_cons.mpr ⟨(fun _ => ⟨mq11524, mk11524, Or.inl ⟨mc11524, ⟨by decide, (RX5, TX5, 7), rfl, rfl⟩, q1684, Or.inl ⟨q1685, Or.inl ⟨rfl, Or.inl q1691⟩⟩⟩⟩), (fun _ h => nomatch h)⟩)
theorem mr_20_55 : MOKr 20 (ownS 20) 471 (2, 1, [(14, 11523)]) := fun _ => (List.forall_mem_cons.mpr ⟨(fun _ => ⟨mq11523, mk11523, Or.inl ⟨mc11523, ⟨by decide, (RX5, TX5, 7), rfl, rfl⟩, q1680, Or.inl ⟨q1681, Or.inl ⟨rfl, Or.inl q1679⟩⟩⟩⟩), (fun _ h => nomatch h)⟩)
theorem mr_20_56 : MOKr 20 (ownS 20) 474 (2, 1, [(15, 11777)]) := fun _ => (List.forall_mem_cons.mpr ⟨(fun _ => ⟨mq11777, mk11777, Or.inl ⟨mc11777, ⟨by decide, (RX6, TX6, 11), rfl, rfl⟩, q1699, Or.inl ⟨q1700, Or.inl ⟨rfl, Or.inl q1698⟩⟩⟩⟩), (fun _ h => nomatch h)⟩)
theorem mr_20_57 : MOKr 20 (ownS 20) 495 (6, 2, [(0, 10496)]) := fun _ => (List.forall_mem_cons.mpr ⟨(fun _ => ⟨mq10496, mk10496, ⟨mc10496, rfl, q1768, rfl, rfl, Or.inl q1767⟩⟩), (fun _ h => nomatch h)⟩)
theorem mr_20_58 : MOKr 20 (ownS 20) 513 (5, 1, [(10, 5184)]) := fun _ => (List.forall_mem_cons.mpr ⟨(fun _ => ⟨mq5184, mk5184, Or.inl ⟨mc5184, ⟨by decide, (RX0, TX0, 51), rfl, rfl⟩, q1813, Or.inl ⟨qs50, Or.inl ⟨rfl, Or.inl q1811⟩⟩⟩⟩), (fun _ h => nomatch h)⟩)
theorem mr_20_59 : MOKr 20 (ownS 20) 517 (2, 0, [(0, 3585)]) := fun _ => (List.forall_mem_cons.mpr ⟨(fun _ => ⟨mq3585, mk3585, ⟨mc3585, q821, rfl, Or.inl q1817⟩⟩), (fun _ h => nomatch h)⟩)
theorem mr_20_60 : MOKr 20 (ownS 20) 531 (2, 0, [(0, 3589)]) := fun _ => (List.forall_mem_cons.mpr ⟨(fun _ => ⟨mq3589, mk3589, ⟨mc3589, q1820, rfl, Or.inl q1819⟩⟩), (fun _ h => nomatch h)⟩)
theorem mr_20_61 : MOKr 20 (ownS 20) 537 (4, 1, [(10, 5175)]) := fun _ => (List.forall_mem_cons.mpr ⟨(fun _ => ⟨mq5175, mk5175, Or.inl ⟨mc5175, ⟨by decide, (RX0, TX0, 51), rfl, rfl⟩, q1724, Or.inl ⟨qs44, Or.inl ⟨rfl, Or.inl q1815⟩⟩⟩⟩), (fun _ h => nomatch h)⟩)
theorem mr_20_62 : MOKr 20 (ownS 20) 540 (4, 1, [(10, 5178)]) := fun _ => (List.forall_mem_cons.mpr ⟨(fun _ => ⟨mq5178, mk5178, Or.inl ⟨mc5178, ⟨by decide, (RX0, TX0, 51), rfl, rfl⟩, q1750, Or.inl ⟨qs46, Or.inl ⟨rfl, Or.inl q1816⟩⟩⟩⟩), (fun _ h => nomatch h)⟩)
theorem mr_20_63 : MOKr 20 (ownS 20) 543 (6, 1, [(10, 5183)]) := fun _ => (List.forall_mem_cons.mpr ⟨(fun _ => ⟨mq5183, mk5183, Or.inl ⟨mc5183, ⟨by decide, (RX0, TX0, 51), rfl, rfl⟩, q1809, Or.inl ⟨qs49, Or.inl ⟨rfl, Or.inl q1807⟩⟩⟩⟩), (fun _ h => nomatch h)⟩)
theorem mr_20_64 : MOKr 20 (ownS 20) 547 (2, 1, [(10, 5185)]) := fun _ => (List.forall_mem_cons.mpr ⟨(fun _ => ⟨mq5185, mk5185, Or.inl ⟨mc5185, ⟨by decide, (RX0, TX0, 51), rfl, rfl⟩, q1824, Or.inl ⟨qs51, Or.inl ⟨rfl, Or.inl q1822⟩⟩⟩⟩), (fun _ h => nomatch h)⟩)
theorem mr_20_65 : MOKr 20 (ownS 20) 550 (2, 1, [(15, 11783)]) := fun _ => (List.forall_mem_cons.mpr ⟨(fun _ => ⟨mq11783, mk11783, Or.inl ⟨mc11783, ⟨by decide, (RX6, TX6, 11), rfl, rfl⟩, q1835, Or.inl ⟨q1836, Or.inl ⟨rfl, Or.inl q1834⟩⟩⟩⟩), (fun _ h => nomatch h)⟩)
theorem mr_20_66 : MOKr 20 (ownS 20) 553 (2, 0, [(0, 3590)]) := fun _ => (List.forall_mem_cons.mpr ⟨(fun _ => ⟨mq3590, mk3590, ⟨mc3590, q1839, rfl, Or.inl q1838⟩⟩), (fun _ h => nomatch h)⟩)
theorem mr_20_67 : MOKr 20 (ownS 20) 558 (2, 1, [(10, 5192)]) := fun _ => (List.forall_mem_cons.mpr ⟨(fun _ => ⟨mq5192, mk5192, Or.inl ⟨mc5192, ⟨by decide, (RX0, TX0, 51), rfl, rfl⟩, q1859, Or.inl ⟨qs53, Or.inl ⟨rfl, Or.inl q1857⟩⟩⟩⟩), (fun _ h => nomatch h)⟩)
theorem mr_20_68 : MOKr 20 (ownS 20) 561 (3, 1, [(10, 5193)]) := fun _ => (List.forall_mem_cons.mpr ⟨(fun _ => ⟨mq5193, mk5193, Or.inl ⟨mc5193, ⟨by decide, (RX0, TX0, 51), rfl, rfl⟩, q1863, Or.inl ⟨qs54, Or.inl ⟨rfl, Or.inl q1861⟩⟩⟩⟩), (fun _ h => nomatch h)⟩)
theorem mr_20_69 : MOKr 20 (ownS 20) 564 (5, 1, [(10, 5194)]) := fun _ => (List.forall_mem_cons.mpr ⟨(fun _ => ⟨mq5194, mk5194, Or.inl ⟨mc5194, ⟨by decide, (RX0, TX0, 51), rfl, rfl⟩, q1867, Or.inl ⟨qs55, Or.inl ⟨rfl, Or.inl q1865⟩⟩⟩⟩), (fun _ h => nomatch h)⟩)
theorem mr_20_70 : MOKr 20 (ownS 20) 567 (5, 1, [(10, 5195)]) := fun _ => (List.forall_mem_cons.mpr ⟨(fun _ => ⟨mq5195, mk5195, Or.inl ⟨mc5195, ⟨by decide, (RX0, TX0, 51), rfl, rfl⟩, q1871, Or.inl ⟨qs56, Or.inl ⟨rfl, Or.inl q1869⟩⟩⟩⟩), (fun _ h => nomatch h)⟩)
theorem mr_20_71 : MOKr 20 (ownS 20) 570 (2, 1, [(10, 5196)]) := fun _ => (List.forall_mem_cons.mpr ⟨(fun _ => ⟨mq5196, mk5196, Or.inl ⟨mc5196, ⟨by decide, (RX0, TX0, 51), rfl, rfl⟩, q1875, Or.inl ⟨qs57, Or.inl ⟨rfl, Or.inl q1873⟩⟩⟩⟩), (fun _ h => nomatch h)⟩)
theorem mr_20_72 : MOKr 20 (ownS 20) 573 (1, 1, [(10, 5197)]) := fun _ => (List.forall_mem_cons.mpr ⟨(fun _ => ⟨mq5197, mk5197, Or.inl ⟨mc5197, ⟨by decide, (RX0, TX0, 51), rfl, rfl⟩, q1879, Or.inl ⟨qs58, Or.inl ⟨rfl, Or.inl q1877⟩⟩⟩⟩), (fun _ h => nomatch h)⟩)
theorem mr_20_73 : MOKr 20 (ownS 20) 585 (5, 0, [(0, 20001)]) := fun _ => (List.forall_mem_cons.mpr ⟨(fun h => absurd h (by decide)), (fun _ h => nomatch h)⟩)
theorem mr_20_74 : MOKr 20 (ownS 20) 591 (2, 1, [(10, 5191)]) := fun _ => (List.forall_mem_cons.mpr ⟨(fun _ => ⟨mq5191, mk5191, Or.inl ⟨mc5191, ⟨by decide, (RX0, TX0, 51), rfl, rfl⟩, q1855, Or.inl ⟨qs52, Or.inl ⟨rfl, Or.inl q1853⟩⟩⟩⟩), (fun _ h => nomatch h)⟩)
theorem mr_20_75 : MOKr 20 (ownS 20) 603 (1, 0, [(0, 5202)]) := fun _ => (List.forall_mem_cons.mpr ⟨(fun _ => ⟨mq5202, mk5202, ⟨mc5202, q1899, rfl, Or.inl q1898⟩⟩), (fun _ h => nomatch h)⟩)
theorem mr_20_76 : MOKr 20 (ownS 20) 607 (4, 1, [(10, 5203)]) := fun _ => (List.forall_mem_cons.mpr ⟨(fun _ => ⟨mq5203, mk5203, Or.inl ⟨mc5203, ⟨by decide, (RX0, TX0, 51), rfl, rfl⟩, q1904, Or.inl ⟨qs59, Or.inl ⟨rfl, Or.inl q1902⟩⟩⟩⟩), (fun _ h => nomatch h)⟩)
theorem mr_20_77 : MOKr 20 (ownS 20) 632 (5, 1, [(10, 5208)]) := fun _ => (List.forall_mem_cons.mpr ⟨(fun _ => ⟨mq5208, mk5208, Or.inl ⟨mc5208, ⟨by decide, (RX0, TX0, 51), rfl, rfl⟩, q1924, Or.inl ⟨qs60, Or.inl ⟨rfl, Or.inl q1922⟩⟩⟩⟩), (fun _ h => nomatch h)⟩)
theorem mr_20_78 : MOKr 20 (ownS 20) 635 (2, 1, [(10, 5209)]) := fun _ => (List.forall_mem_cons.mpr ⟨(fun _ => ⟨mq5209, mk5209, Or.inl ⟨mc5209, ⟨by decide, (RX0, TX0, 51), rfl, rfl⟩, q1928, Or.inl ⟨qs61, Or.inl ⟨rfl, Or.inl q1926⟩⟩⟩⟩), (fun _ h => nomatch h)⟩)
theorem mr_20_79 : MOKr 20 (ownS 20) 638 (1, 0, [(0, 2304)]) := fun _ => (List.forall_mem_cons.mpr ⟨(fun _ => ⟨mq2304, mk2304, ⟨mc2304, q1931, rfl, Or.inl q1930⟩⟩), (fun _ h => nomatch h)⟩)
theorem mr_20_80 : MOKr 20 (ownS 20) 652 (4, 1, [(10, 5213)]) := fun _ => (List.forall_mem_cons.mpr ⟨(fun _ => ⟨mq5213, mk5213, Or.inl ⟨mc5213, ⟨by decide, (RX0, TX0, 51), rfl, rfl⟩, q1949, Or.inl ⟨qs63, Or.inl ⟨rfl, Or.inl q1947⟩⟩⟩⟩), (fun _ h => nomatch h)⟩)
theorem mr_20_81 : MOKr 20 (ownS 20) 655 (2, 0, [(0, 5211)]) := fun _ => (List.forall_mem_cons.mpr ⟨(fun _ => ⟨mq5211, mk5211, ⟨mc5211, q1941, rfl, Or.inl q1940⟩⟩), (fun _ h => nomatch h)⟩)
theorem mr_20_82 : MOKr 20 (ownS 20) 658 (3, 1, [(10, 5212)]) := fun _ => (List.forall_mem_cons.mpr ⟨(fun _ => ⟨mq5212, mk5212, Or.inl ⟨mc5212, ⟨by decide, (RX0, TX0, 51), rfl, rfl⟩, q1945, Or.inl ⟨qs62, Or.inl ⟨rfl, Or.inl q1943⟩⟩⟩⟩), (fun _ h => nomatch h)⟩)
theorem mr_20_83 : MOKr 20 (ownS 20) 662 (2, 0, [(0, 5214)]) := fun _ => (List.forall_mem_cons.mpr ⟨(fun _ => ⟨mq5214, mk5214, ⟨mc5214, q1952, rfl, Or.inl q1951⟩⟩), (fun _ h => nomatch h)⟩)
theorem mr_20_84 : MOKr 20 (ownS 20) 40 (2, 2, [(0, 8192)]) := fun _ => (List.forall_mem_cons.mpr ⟨(fun _ => ⟨mq8192, mk8192, ⟨mc8192, rfl, q331, rfl, rfl, Or.inr ⟨_, q330⟩⟩⟩), (fun _ h => nomatch h)⟩)
theorem mr_20_85 : MOKr 20 (ownS 20) 49 (1, 2, [(0, 11008)]) := fun _ => (List.forall_mem_cons.mpr ⟨(fun _ => ⟨mq11008, mk11008, ⟨mc11008, rfl, q364, rfl, rfl, Or.inr ⟨_, q363⟩⟩⟩), (fun _ h => nomatch h)⟩)
theorem mr_20_86 : MOKr 20 (ownS 20) 63 (2, 2, [(0, 11520)]) := fun _ => (List.forall_mem_cons.mpr ⟨(fun _ => ⟨mq11520, mk11520, ⟨mc11520, rfl, q465, rfl, rfl, Or.inr ⟨_, q464⟩⟩⟩), (fun _ h => nomatch h)⟩)
theorem mr_20_87 : MOKr 20 (ownS 20) 70 (2, 2, [(0, 11776)]) := fun _ => (List.forall_mem_cons.mpr ⟨(fun _ => ⟨mq11776, mk11776, ⟨mc11776, rfl, q494, rfl, rfl, Or.inr ⟨_, q493⟩⟩⟩), (fun _ h => nomatch h)⟩)
theorem mr_20 : ∀ q ∈ ([(3, (1, 2, [(0, 20000)])), (11, (1, 2, [(0, 5376)])), (121, (2, 1, [(10, 5134)])), (125, (3, 0, [(0, 5122)])), (130, (2, 0, [(0, 5125)])), (134, (3, 0, [(0, 5124)])), (138, (2, 0, [(0, 5127)])), (142, (4, 0, [(0, 5123)])), (146, (4, 0, [(0, 5126)])), (150, (1, 0, [(0, 5128)])), (154, (2, 0, [(0, 3584)])), (159, (2, 0, [(0, 5130)])), (162, (2, 0, [(0, 5131)])), (165, (2, 1, [(10, 5133)])), (168, (2, 1, [(11, 5377)])), (172, (2, 1, [(10, 5136)])), (192, (2, 1, [(10, 5139)])), (208, (2, 1, [(10, 5143)])), (211, (1, 0, [(0, 5147)])), (218, (1, 1, [(16, 2821)])), (235, (2, 1, [(16, 2822)])), (239, (6, 1, [(10, 5146)])), (245, (7, 2, [(0, 12544)])), (248, (3, 1, [(10, 5148)])), (254, (7, 2, [(0, 5632)])), (257, (7, 2, [(0, 5888)])), (260, (8, 2, [(0, 6144)])), (263, (2, 1, [(10, 5153)])), (268, (8, 2, [(0, 6400)])), (283, (3, 2, [(0, 6656)])), (286, (1, 1, [(22, 6657)])), (290, (1, 1, [(22, 6658)])), (294, (1, 0, [(0, 5156)])), (298, (7, 1, [(10, 5157)])), (304, (2, 1, [(16, 2825)])), (320, (1, 1, [(10, 5159)])), (323, (1, 2, [(0, 20007)])), (333, (2, 1, [(10, 5162)])), (342, (3, 2, [(0, 6912)])), (343, (1, 1, [(23, 6913)])), (354, (4, 2, [(0, 10240)])), (360, (2, 1, [(12, 8193)])), (388, (3, 1, [(26, 7425)])), (396, (2, 0, [(0, 3587)])), (400, (2, 0, [(0, 3588)])), (405, (6, 1, [(10, 5172)])), (408, (1, 0, [(0, 5177)])), (427, (3, 1, [(10, 5170)])), (430, (1, 2, [(0, 20008)])), (433, (4, 1, [(10, 5171)])), (439, (1, 0, [(0, 3586)])), (443, (3, 1, [(10, 5176)])), (450, (4, 1, [(10, 5173)])), (463, (2, 1, [(14, 11521)])), (467, (4, 1, [(14, 11524)])), (471, (2, 1, [(14, 11523)])), (474, (2, 1, [(15, 11777)])), (495, (6, 2, [(0, 10496)])), (513, (5, 1, [(10, 5184)])), (517, (2, 0, [(0, 3585)])), (531, (2, 0, [(0, 3589)])), (537, (4, 1, [(10, 5175)])), (540, (4, 1, [(10, 5178)])), (543, (6, 1, [(10, 5183)])), (547, (2, 1, [(10, 5185)])), (550, (2, 1, [(15, 11783)])), (553, (2, 0, [(0, 3590)])), (558, (2, 1, [(10, 5192)])), (561, (3, 1, [(10, 5193)])), (564, (5, 1, [(10, 5194)])), (567, (5, 1, [(10, 5195)])), (570, (2, 1, [(10, 5196)])), (573, (1, 1, [(10, 5197)])), (585, (5, 0, [(0, 20001)])), (591, (2, 1, [(10, 5191)])), (603, (1, 0, [(0, 5202)])), (607, (4, 1, [(10, 5203)])), (632, (5, 1, [(10, 5208)])), (635, (2, 1, [(10, 5209)])), (638, (1, 0, [(0, 2304)])), (652, (4, 1, [(10, 5213)])), (655, (2, 0, [(0, 5211)])), (658, (3, 1, [(10, 5212)])), (662, (2, 0, [(0, 5214)])), (40, (2, 2, [(0, 8192)])), (49, (1, 2, [(0, 11008)])), (63, (2, 2, [(0, 11520)])), (70, (2, 2, [(0, 11776)]))] : List (Nat × (Nat × Nat × List (Nat × Nat)))), MOKr 20 (ownS 20) q.1 q.2 := (List.forall_mem_cons.mpr ⟨mr_20_0, (List.forall_mem_cons.mpr ⟨mr_20_1, (List.forall_mem_cons.mpr ⟨mr_20_2, (List.forall_mem_cons.mpr ⟨mr_20_3, (List.forall_mem_cons.mpr ⟨mr_20_4, (List.forall_mem_cons.mpr ⟨mr_20_5, (List.forall_mem_cons.mpr ⟨mr_20_6, (List.forall_mem_cons.mpr ⟨mr_20_7, (List.forall_mem_cons.mpr ⟨mr_20_8, (List.forall_mem_cons.mpr ⟨mr_20_9, (List.forall_mem_cons.mpr ⟨mr_20_10, (List.forall_mem_cons.mpr ⟨mr_20_11, (List.forall_mem_cons.mpr ⟨mr_20_12, (List.forall_mem_cons.mpr ⟨mr_20_13, (List.forall_mem_cons.mpr ⟨mr_20_14, (List.forall_mem_cons.mpr ⟨mr_20_15, (List.forall_mem_cons.mpr ⟨mr_20_16, (List.forall_mem_cons.mpr ⟨mr_20_17, (List.forall_mem_cons.mpr ⟨mr_20_18, (List.forall_mem_cons.mpr ⟨mr_20_19, (List.forall_mem_cons.mpr ⟨mr_20_20, (List.forall_mem_cons.mpr ⟨mr_20_21, (List.forall_mem_cons.mpr ⟨mr_20_22, (List.forall_mem_cons.mpr ⟨mr_20_23, (List.forall_mem_cons.mpr ⟨mr_20_24, (List.forall_mem_cons.mpr ⟨mr_20_25, (List.forall_mem_cons.mpr ⟨mr_20_26, (List.forall_mem_cons.mpr ⟨mr_20_27, (List.forall_mem_cons.mpr ⟨mr_20_28, (List.forall_mem_cons.mpr ⟨mr_20_29, (List.forall_mem_cons.mpr ⟨mr_20_30, (List.forall_mem_cons.mpr ⟨mr_20_31, (List.forall_mem_cons.mpr ⟨mr_20_32, (List.forall_mem_cons.mpr ⟨mr_20_33, (List.forall_mem_cons.mpr ⟨mr_20_34, (List.forall_mem_cons.mpr ⟨mr_20_35, (List.forall_mem_cons.mpr ⟨mr_20_36, (List.forall_mem_cons.mpr ⟨mr_20_37, (List.forall_mem_cons.mpr ⟨mr_20_38, (List.forall_mem_cons.mpr ⟨mr_20_39, (List.forall_mem_cons.mpr ⟨mr_20_40, (List.forall_mem_cons.mpr ⟨mr_20_41, (List.forall_mem_cons.mpr ⟨mr_20_42, (List.forall_mem_cons.mpr ⟨mr_20_43, (List.forall_mem_cons.mpr ⟨mr_20_44, (List.forall_mem_cons.mpr ⟨mr_20_45, (List.forall_mem_cons.mpr ⟨mr_20_46, (List.forall_mem_cons.mpr ⟨mr_20_47, (List.forall_mem_cons.mpr ⟨mr_20_48, (List.forall_mem_cons.mpr ⟨mr_20_49, (List.forall_mem_cons.mpr ⟨mr_20_50, (List.forall_mem_cons.mpr ⟨mr_20_51, (List.forall_mem_cons.mpr ⟨mr_20_52, (List.forall_mem_cons.mpr ⟨mr_20_53, (List.forall_mem_cons.mpr ⟨mr_20_54, (List.forall_mem_cons.mpr ⟨mr_20_55, (List.forall_mem_cons.mpr ⟨mr_20_56, (List.forall_mem_cons.mpr ⟨mr_20_57, (List.forall_mem_cons.mpr ⟨mr_20_58, (List.forall_mem_cons.mpr ⟨mr_20_59, (List.forall_mem_cons.mpr ⟨mr_20_60, (List.forall_mem_cons.mpr ⟨mr_20_61, (List.forall_mem_cons.mpr ⟨mr_20_62, (List.forall_mem_cons.mpr ⟨mr_20_63, (List.forall_mem_cons.mpr ⟨mr_20_64, (List.forall_mem_cons.mpr ⟨mr_20_65, (List.forall_mem_cons.mpr ⟨mr_20_66, (List.forall_mem_cons.mpr ⟨mr_20_67, (List.forall_mem_cons.mpr ⟨mr_20_68, (List.forall_mem_cons.mpr ⟨mr_20_69, (List.forall_mem_cons.mpr ⟨mr_20_70, (List.forall_mem_cons.mpr ⟨mr_20_71, (List.forall_mem_cons.mpr ⟨mr_20_72, (List.forall_mem_cons.mpr ⟨mr_20_73, (List.forall_mem_cons.mpr ⟨mr_20_74, (List.forall_mem_cons.mpr ⟨mr_20_75, (List.forall_mem_cons.mpr ⟨mr_20_76, (List.forall_mem_cons.mpr ⟨mr_20_77, (List.forall_mem_cons.mpr ⟨mr_20_78, (List.forall_mem_cons.mpr ⟨mr_20_79, (List.forall_mem_cons.mpr ⟨mr_20_80, (List.forall_mem_cons.mpr ⟨mr_20_81, (List.forall_mem_cons.mpr ⟨mr_20_82, (List.forall_mem_cons.mpr ⟨mr_20_83, (List.forall_mem_cons.mpr ⟨mr_20_84, (List.forall_mem_cons.mpr ⟨mr_20_85, (List.forall_mem_cons.mpr ⟨mr_20_86, (List.forall_mem_cons.mpr ⟨mr_20_87, (fun _ h => nomatch h)⟩)⟩)⟩)⟩)⟩)⟩)⟩)⟩)⟩)⟩)⟩)⟩)⟩)⟩)⟩)⟩)⟩)⟩)⟩)⟩)⟩)⟩)⟩)⟩)⟩)⟩)⟩)⟩)⟩)⟩)⟩)⟩)⟩)⟩)⟩)⟩)⟩)⟩)⟩)⟩)⟩)⟩)⟩)⟩)⟩)⟩)⟩)⟩)⟩)⟩)⟩)⟩)⟩)⟩)⟩)⟩)⟩)⟩)⟩)⟩)⟩)⟩)⟩)⟩)⟩)⟩)⟩)⟩)⟩)⟩)⟩)⟩)⟩)⟩)⟩)⟩)⟩)⟩)⟩)⟩)⟩)⟩)⟩)⟩)⟩)⟩)⟩)⟩)
theorem mr_21_0 : MOKr 21 (ownS 21) 3 (1, 2, [(0, 20000)]) := fun _ => (List.forall_mem_cons.mpr ⟨(fun h => absurd h (by decide)), (fun _ h => nomatch h)⟩)
theorem mr_21_1 : MOKr 21 (ownS 21) 11 (2, 2, [(0, 2816)]) := fun _ => (List.forall_mem_cons.mpr ⟨(fun _ => ⟨mq2816, mk2816, ⟨mc2816, rfl, q209, rfl, rfl, Or.inl q208⟩⟩), (fun _ h => nomatch h)⟩)
theorem mr_21_2 : MOKr 21 (ownS 21) 73 (1, 1, [(16, 2817)]) := fun _ => (List.forall_mem_cons.mpr ⟨(fun _ => ⟨mq2817, mk2817, Or.inl ⟨mc2817, ⟨by decide, (RJ2, TJ2, 3), rfl, rfl⟩, q762, Or.inl ⟨q763, Or.inl ⟨rfl, Or.inl q761⟩⟩⟩⟩), (fun _ h => nomatch h)⟩)
theorem mr_21_3 : MOKr 21 (ownS 21) 76 (2, 1, [(16, 2818)]) := fun _ => (List.forall_mem_cons.mpr ⟨(fun _ => ⟨mq2818, mk2818, Or.inl ⟨mc2818, ⟨by decide, (RJ2, TJ2, 3), rfl, rfl⟩, q766, Or.inl ⟨q767, Or.inl ⟨rfl, Or.inl q765⟩⟩⟩⟩), (fun _ h => nomatch h)⟩)
theorem mr_21_4 : MOKr 21 (ownS 21) 80 (5, 0, [(0, 20001)]) := fun _ => (List.forall_mem_cons.mpr ⟨(fun h => absurd h (by decide)), (fun _ h => nomatch h)⟩)
theorem mr_21_5 : MOKr 21 (ownS 21) 86 (2, 0, [(0, 5378)]) := fun _ => (List.forall_mem_cons.mpr ⟨(fun _ => ⟨mq5378, mk5378, ⟨mc5378, q759, rfl, Or.inl q758⟩⟩), (fun _ h => nomatch h)⟩)
theorem mr_21_6 : MOKr 21 (ownS 21) 90 (2, 0, [(0, 5379)]) := fun _ => (List.forall_mem_cons.mpr ⟨(fun _ => ⟨mq5379, mk5379, ⟨mc5379, q843, rfl, Or.inl q842⟩⟩), (fun _ h => nomatch h)⟩)
theorem mr_21 : ∀ q ∈ ([(3, (1, 2, [(0, 20000)])), (11, (2, 2, [(0, 2816)])), (73, (1, 1, [(16, 2817)])), (76, (2, 1, [(16, 2818)])), (80, (5, 0, [(0, 20001)])), (86, (2, 0, [(0, 5378)])), (90, (2, 0, [(0, 5379)]))] : List (Nat × (Nat × Nat × List (Nat × Nat)))), MOKr 21 (ownS 21) q.1 q.2 := (List.forall_mem_cons.mpr ⟨mr_21_0, (List.forall_mem_cons.mpr ⟨mr_21_1, (List.forall_mem_cons.mpr ⟨mr_21_2, (List.forall_mem_cons.mpr ⟨mr_21_3, (List.forall_mem_cons.mpr ⟨mr_21_4, (List.forall_mem_cons.mpr ⟨mr_21_5, (List.forall_mem_cons.mpr ⟨mr_21_6, (fun _ h => nomatch h)⟩)⟩)⟩)⟩)⟩)⟩)⟩)
theorem mr_22_0 : MOKr 22 (ownS 22) 3 (7, 2, [(0, 12288)]) := fun _ => (List.forall_mem_cons.mpr ⟨(fun _ => ⟨mq12288, mk12288, ⟨mc12288, rfl, q912, rfl, rfl, Or.inl q977⟩⟩), (fun _ h => nomatch h)⟩)
theorem mr_22 : ∀ q ∈ ([(3, (7, 2, [(0, 12288)]))] : List (Nat × (Nat × Nat × List (Nat × Nat)))), MOKr 22 (ownS 22) q.1 q.2 := (List.forall_mem_cons.mpr ⟨mr_22_0, (fun _ h => nomatch h)⟩)
theorem mr_23_0 : MOKr 23 (ownS 23) 1 (7, 2, [(0, 12544)]) := fun _ => (List.forall_mem_cons.mpr ⟨(fun _ => ⟨mq12544, mk12544, ⟨mc12544, rfl, q909, rfl, rfl, Or.inl q994⟩⟩), (fun _ h => nomatch h)⟩)
theorem mr_23 : ∀ q ∈ ([(1, (7, 2, [(0, 12544)]))] : List (Nat × (Nat × Nat × List (Nat × Nat)))), MOKr 23 (ownS 23) q.1 q.2 := (List.forall_mem_cons.mpr ⟨mr_23_0, (fun _ h => nomatch h)⟩)
theorem mr_24_0 : MOKr 24 (ownS 24) 3 (7, 2, [(0, 12288)]) := fun _ => (List.forall_mem_cons.mpr ⟨(fun _ => ⟨mq12288, mk12288, ⟨mc12288, rfl, q912, rfl, rfl, Or.inl q1011⟩⟩), (fun _ h => nomatch h)⟩)
theorem mr_24 : ∀ q ∈ ([(3, (7, 2, [(0, 12288)]))] : List (Nat × (Nat × Nat × List (Nat × Nat)))), MOKr 24 (ownS 24) q.1 q.2 := (List.forall_mem_cons.mpr ⟨mr_24_0, (fun _ h => nomatch h)⟩)
theorem mr_25_0 : MOKr 25 (ownS 25) 3 (7, 2, [(0, 12288)]) := fun _ => (List.forall_mem_cons.mpr ⟨(fun _ => ⟨mq12288, mk12288, ⟨mc12288, rfl, q912, rfl, rfl, Or.inl q1036⟩⟩), (fun _ h => nomatch h)⟩)
theorem mr_25 : ∀ q ∈ ([(3, (7, 2, [(0, 12288)]))] : List (Nat × (Nat × Nat × List (Nat × Nat)))), MOKr 25 (ownS 25) q.1 q.2 := (List.forall_mem_cons.mpr ⟨mr_25_0, (fun _ h => nomatch h)⟩)
theorem mr_26_0 : MOKr 26 (ownS 26) 1 (1, 2, [(0, 20000)]) := fun _ => (List.forall_mem_cons.mpr ⟨(fun h => absurd h (by decide)), (fun _ h => nomatch h)⟩)
theorem mr_26_1 : MOKr 26 (ownS 26) 13 (5, 0, [(0, 20001)]) := fun _ => (List.forall_mem_cons.mpr ⟨(fun h => absurd h (by decide)), (fun _ h => nomatch h)⟩)
theorem mr_26_2 : MOKr 26 (ownS 26) 28 (1, 0, [(0, 20003)]) := fun _ => (List.forall_mem_cons.mpr ⟨(fun h => absurd h (by decide)), (fun _ h => nomatch h)⟩)
theorem mr_26 : ∀ q ∈ ([(1, (1, 2, [(0, 20000)])), (13, (5, 0, [(0, 20001)])), (28, (1, 0, [(0, 20003)]))] : List (Nat × (Nat × Nat × List (Nat × Nat)))), MOKr 26 (ownS 26) q.1 q.2 := (List.forall_mem_cons.mpr ⟨mr_26_0, (List.forall_mem_cons.mpr ⟨mr_26_1, (List.forall_mem_cons.mpr ⟨mr_26_2, (fun _ h => nomatch h)⟩)⟩)⟩)
theorem mr_27_0 : MOKr 27 (ownS 27) 3 (1, 2, [(0, 20000)]) := fun _ => (List.forall_mem_cons.mpr ⟨(fun h => absurd h (by decide)), (fun _ h => nomatch h)⟩)
theorem mr_27_1 : MOKr 27 (ownS 27) 11 (2, 2, [(0, 2816)]) := fun _ => (List.forall_mem_cons.mpr ⟨(fun _ => ⟨mq2816, mk2816, ⟨mc2816, rfl, q209, rfl, rfl, Or.inl q1219⟩⟩), (fun _ h => nomatch h)⟩)
theorem mr_27_2 : MOKr 27 (ownS 27) 34 (4, 1, [(23, 6915)]) := fun _ => (List.forall_mem_cons.mpr ⟨(fun _ => ⟨mq6915, mk6915, Or.inl ⟨mc6915, ⟨by decide, (RX15, TX15, 7), rfl, rfl⟩, q1253, Or.inl ⟨qs16, Or.inl ⟨rfl, Or.inl q1251⟩⟩⟩⟩), (fun _ h => nomatch h)⟩)
theorem mr_27_3 : MOKr 27 (ownS 27) 38 (1, 2, [(0, 20004)]) := fun _ => (List.forall_mem_cons.mpr ⟨(fun h => absurd h (by decide)), (fun _ h => nomatch h)⟩)
theorem mr_27_4 : MOKr 27 (ownS 27) 44 (2, 2, [(0, 20005)]) := fun _ => (List.forall_mem_cons.mpr ⟨(fun h => absurd h (by decide)), (fun _ h => nomatch h)⟩)
theorem mr_27_5 : MOKr 27 (ownS 27) 48 (2, 1, [(23, 6918)]) := fun _ => (List.forall_mem_cons.mpr ⟨(fun _ => ⟨mq6918, mk6918, Or.inl ⟨mc6918, ⟨by decide, (RX15, TX15, 7), rfl, rfl⟩, q1286, Or.inl ⟨qs19, Or.inl ⟨rfl, Or.inl q1284⟩⟩⟩⟩), (fun _ h => nomatch h)⟩)
theorem mr_27_6 : MOKr 27 (ownS 27) 52 (1, 1, [(23, 6914)]) := fun _ => (List.forall_mem_cons.mpr ⟨(fun _ => ⟨mq6914, mk6914, Or.inl ⟨mc6914, ⟨by decide, (RX15, TX15, 7), rfl, rfl⟩, q1249, Or.inl ⟨qs15, Or.inl ⟨rfl, Or.inl q1247⟩⟩⟩⟩), (fun _ h => nomatch h)⟩)
theorem mr_27_7 : MOKr 27 (ownS 27) 55 (2, 1, [(23, 6917)]) := fun _ => (List.forall_mem_cons.mpr ⟨(fun _ => ⟨mq6917, mk6917, Or.inl ⟨mc6917, ⟨by decide, (RX15, TX15, 7), rfl, rfl⟩, q1282, Or.inl ⟨qs18, Or.inl ⟨rfl, Or.inl q1280⟩⟩⟩⟩), (fun _ h => nomatch h)⟩)
theorem mr_27_8 : MOKr 27 (ownS 27) 60 (2, 2, [(0, 7168)]) := fun _ => (List.forall_mem_cons.mpr ⟨(fun _ => ⟨mq7168, mk7168, ⟨mc7168, rfl, q1270, rfl, rfl, Or.inl q1269⟩⟩), (fun _ h => nomatch h)⟩)
theorem mr_27_9 : MOKr 27 (ownS 27) 61 (1, 1, [(23, 6916)]) := fun _ => (List.forall_mem_cons.mpr ⟨(fun _ => ⟨mq6916, mk6916, Or.inl ⟨mc6916, ⟨by decide, (RX15, TX15, 7), rfl, rfl⟩, q1257, Or.inl ⟨qs17, Or.inl ⟨rfl, Or.inl q1255⟩⟩⟩⟩), (fun _ h => nomatch h)⟩)
theorem mr_27_10 : MOKr 27 (ownS 27) 66 (1, 1, [(16, 2821)]) := fun _ => (List.forall_mem_cons.mpr ⟨(fun _ => ⟨mq2821, mk2821, Or.inl ⟨mc2821, ⟨by decide, (RJ2, TJ2, 3), rfl, rfl⟩, q903, Or.inl ⟨q904, Or.inl ⟨rfl, Or.inl q1259⟩⟩⟩⟩), (fun _ h => nomatch h)⟩)
theorem mr_27_11 : MOKr 27 (ownS 27) 70 (3, 1, [(23, 6919)]) := fun _ => (List.forall_mem_cons.mpr ⟨(fun _ => ⟨mq6919, mk6919, Or.inl ⟨mc6919, ⟨by decide, (RX15, TX15, 7), rfl, rfl⟩, q1336, Or.inl ⟨qs20, Or.inl ⟨rfl, Or.inl q1334⟩⟩⟩⟩), (fun _ h => nomatch h)⟩)
theorem mr_27_12 : MOKr 27 (ownS 27) 75 (2, 1, [(23, 6920)]) := fun _ => (List.forall_mem_cons.mpr ⟨(fun _ => ⟨mq6920, mk6920, Or.inl ⟨mc6920, ⟨by decide, (RX15, TX15, 7), rfl, rfl⟩, q1341, Or.inl ⟨qs21, Or.inl ⟨rfl, Or.inl q1339⟩⟩⟩⟩), (fun _ h => nomatch h)⟩)
theorem mr_27_13 : MOKr 27 (ownS 27) 81 (4, 2, [(0, 7424)]) := fun _ => (List.forall_mem_cons.mpr ⟨(fun _ => ⟨mq7424, mk7424, ⟨mc7424, rfl, q1346, rfl, rfl, Or.inl q1345⟩⟩), (fun _ h => nomatch h)⟩)
theorem mr_27_14 : MOKr 27 (ownS 27) 84 (2, 1, [(16, 2822)]) := fun _ => (List.forall_mem_cons.mpr ⟨(fun _ => ⟨mq2822, mk2822, Or.inl ⟨mc2822, ⟨by decide, (RJ2, TJ2, 3), rfl, rfl⟩, q957, Or.inl ⟨q958, Or.inl ⟨rfl, Or.inl q1376⟩⟩⟩⟩), (fun _ h => nomatch h)⟩)
theorem mr_27_15 : MOKr 27 (ownS 27) 92 (1, 1, [(23, 6921)]) := fun _ => (List.forall_mem_cons.mpr ⟨(fun _ => ⟨mq6921, mk6921, Or.inl ⟨mc6921, ⟨by decide, (RX15, TX15, 7), rfl, rfl⟩, q1381, Or.inl ⟨qs22, Or.inl ⟨rfl, Or.inl q1379⟩⟩⟩⟩), (fun _ h => nomatch h)⟩)
theorem mr_27_16 : MOKr 27 (ownS 27) 98 (1, 1, [(23, 6929)]) := fun _ => (List.forall_mem_cons.mpr ⟨(fun _ => ⟨mq6929, mk6929, Or.inl ⟨mc6929, ⟨by decide, (RX15, TX15, 7), rfl, rfl⟩, q1486, Or.inl ⟨qs30, Or.inl ⟨rfl, Or.inl q1484⟩⟩⟩⟩), (fun _ h => nomatch h)⟩)
theorem mr_27_17 : MOKr 27 (ownS 27) 108 (1, 1, [(23, 6922)]) := fun _ => (List.forall_mem_cons.mpr ⟨(fun _ => ⟨mq6922, mk6922, Or.inl ⟨mc6922, ⟨by decide, (RX15, TX15, 7), rfl, rfl⟩, q1386, Or.inl ⟨qs23, Or.inl ⟨rfl, Or.inl q1384⟩⟩⟩⟩), (fun _ h => nomatch h)⟩)
theorem mr_27_18 : MOKr 27 (ownS 27) 126 (1, 1, [(23, 6928)]) := fun _ => (List.forall_mem_cons.mpr ⟨(fun _ => ⟨mq6928, mk6928, Or.inl ⟨mc6928, ⟨by decide, (RX15, TX15, 7), rfl, rfl⟩, q1476, Or.inl ⟨qs29, Or.inl ⟨rfl, Or.inl q1474⟩⟩⟩⟩), (fun _ h => nomatch h)⟩)
theorem mr_27_19 : MOKr 27 (ownS 27) 139 (1, 1, [(23, 6930)]) := fun _ => (List.forall_mem_cons.mpr ⟨(fun _ => ⟨mq6930, mk6930, Or.inl ⟨mc6930, ⟨by decide, (RX15, TX15, 7), rfl, rfl⟩, q1490, Or.inl ⟨qs31, Or.inl ⟨rfl, Or.inl q1488⟩⟩⟩⟩), (fun _ h => nomatch h)⟩)
theorem mr_27_20 : MOKr 27 (ownS 27) 146 (2, 2, [(0, 9984)]) := fun _ => (List.forall_mem_cons.mpr ⟨(fun _ => ⟨mq9984, mk9984, ⟨mc9984, rfl, q1539, rfl, rfl, Or.inl q1538⟩⟩), (fun _ h => nomatch h)⟩)
theorem mr_27_21 : MOKr 27 (ownS 27) 152 (1, 1, [(23, 6931)]) := fun _ => (List.forall_mem_cons.mpr ⟨(fun _ => ⟨mq6931, mk6931, Or.inl ⟨mc6931, ⟨by decide, (RX15, TX15, 7), rfl, rfl⟩, q1494, Or.inl ⟨qs32, Or.inl ⟨rfl, Or.inl q1492⟩⟩⟩⟩), (fun _ h => nomatch h)⟩)
theorem mr_27_22 : MOKr 27 (ownS 27) 162 (1, 1, [(23, 6932)]) := fun _ => (List.forall_mem_cons.mpr ⟨(fun _ => ⟨mq6932, mk6932, Or.inl ⟨mc6932, ⟨by decide, (RX15, TX15, 7), rfl, rfl⟩, q1499, Or.inl ⟨qs33, Or.inl ⟨rfl, Or.inl q1497⟩⟩⟩⟩), (fun _ h => nomatch h)⟩)
theorem mr_27_23 : MOKr 27 (ownS 27) 167 (2, 2, [(0, 9728)]) := fun _ => (List.forall_mem_cons.mpr ⟨(fun _ => ⟨mq9728, mk9728, ⟨mc9728, rfl, q1528, rfl, rfl, Or.inl q1527⟩⟩), (fun _ h => nomatch h)⟩)
theorem mr_27_24 : MOKr 27 (ownS 27) 172 (1, 1, [(23, 6925)]) := fun _ => (List.forall_mem_cons.mpr ⟨(fun _ => ⟨mq6925, mk6925, Or.inl ⟨mc6925, ⟨by decide, (RX15, TX15, 7), rfl, rfl⟩, q1399, Or.inl ⟨qs26, Or.inl ⟨rfl, Or.inl q1397⟩⟩⟩⟩), (fun _ h => nomatch h)⟩)
theorem mr_27_25 : MOKr 27 (ownS 27) 185 (4, 2, [(0, 9472)]) := fun _ => (List.forall_mem_cons.mpr ⟨(fun _ => ⟨mq9472, mk9472, ⟨mc9472, rfl, q1509, rfl, rfl, Or.inl q1508⟩⟩), (fun _ h => nomatch h)⟩)
theorem mr_27_26 : MOKr 27 (ownS 27) 188 (1, 1, [(23, 6923)]) := fun _ => (List.forall_mem_cons.mpr ⟨(fun _ => ⟨mq6923, mk6923, Or.inl ⟨mc6923, ⟨by decide, (RX15, TX15, 7), rfl, rfl⟩, q1390, Or.inl ⟨qs24, Or.inl ⟨rfl, Or.inl q1388⟩⟩⟩⟩), (fun _ h => nomatch h)⟩)
theorem mr_27_27 : MOKr 27 (ownS 27) 197 (4, 2, [(0, 8960)]) := fun _ => (List.forall_mem_cons.mpr ⟨(fun _ => ⟨mq8960, mk8960, ⟨mc8960, rfl, q1456, rfl, rfl, Or.inl q1455⟩⟩), (fun _ h => nomatch h)⟩)
theorem mr_27_28 : MOKr 27 (ownS 27) 198 (1, 1, [(23, 6924)]) := fun _ => (List.forall_mem_cons.mpr ⟨(fun _ => ⟨mq6924, mk6924, Or.inl ⟨mc6924, ⟨by decide, (RX15, TX15, 7), rfl, rfl⟩, q1394, Or.inl ⟨qs25, Or.inl ⟨rfl, Or.inl q1392⟩⟩⟩⟩), (fun _ h => nomatch h)⟩)
theorem mr_27_29 : MOKr 27 (ownS 27) 224 (2, 2, [(0, 7936)]) := fun _ => (List.forall_mem_cons.mpr ⟨(fun _ => ⟨mq7936, mk7936, ⟨mc7936, rfl, q1404, rfl, rfl, Or.inl q1403⟩⟩), (fun _ h => nomatch h)⟩)
theorem mr_27_30 : MOKr 27 (ownS 27) 231 (1, 1, [(23, 6926)]) := fun _ => (List.forall_mem_cons.mpr ⟨(fun _ => ⟨mq6926, mk6926, Or.inl ⟨mc6926, ⟨by decide, (RX15, TX15, 7), rfl, rfl⟩, q1418, Or.inl ⟨qs27, Or.inl ⟨rfl, Or.inl q1416⟩⟩⟩⟩), (fun _ h => nomatch h)⟩)
theorem mr_27_31 : MOKr 27 (ownS 27) 236 (2, 2, [(0, 8448)]) := fun _ => (List.forall_mem_cons.mpr ⟨(fun _ => ⟨mq8448, mk8448, ⟨mc8448, rfl, q1423, rfl, rfl, Or.inl q1422⟩⟩), (fun _ h => nomatch h)⟩)
theorem mr_27_32 : MOKr 27 (ownS 27) 237 (1, 1, [(23, 6927)]) := fun _ => (List.forall_mem_cons.mpr ⟨(fun _ => ⟨mq6927, mk6927, Or.inl ⟨mc6927, ⟨by decide, (RX15, TX15, 7), rfl, rfl⟩, q1432, Or.inl ⟨qs28, Or.inl ⟨rfl, Or.inl q1430⟩⟩⟩⟩), (fun _ h => nomatch h)⟩)
theorem mr_27_33 : MOKr 27 (ownS 27) 242 (2, 2, [(0, 8704)]) := fun _ => (List.forall_mem_cons.mpr ⟨(fun _ => ⟨mq8704, mk8704, ⟨mc8704, rfl, q1444, rfl, rfl, Or.inl q1443⟩⟩), (fun _ h => nomatch h)⟩)
theorem mr_27 : ∀ q ∈ ([(3, (1, 2, [(0, 20000)])), (11, (2, 2, [(0, 2816)])), (34, (4, 1, [(23, 6915)])), (38, (1, 2, [(0, 20004)])), (44, (2, 2, [(0, 20005)])), (48, (2, 1, [(23, 6918)])), (52, (1, 1, [(23, 6914)])), (55, (2, 1, [(23, 6917)])), (60, (2, 2, [(0, 7168)])), (61, (1, 1, [(23, 6916)])), (66, (1, 1, [(16, 2821)])), (70, (3, 1, [(23, 6919)])), (75, (2, 1, [(23, 6920)])), (81, (4, 2, [(0, 7424)])), (84, (2, 1, [(16, 2822)])), (92, (1, 1, [(23, 6921)])), (98, (1, 1, [(23, 6929)])), (108, (1, 1, [(23, 6922)])), (126, (1, 1, [(23, 6928)])), (139, (1, 1, [(23, 6930)])), (146, (2, 2, [(0, 9984)])), (152, (1, 1, [(23, 6931)])), (162, (1, 1, [(23, 6932)])), (167, (2, 2, [(0, 9728)])), (172, (1, 1, [(23, 6925)])), (185, (4, 2, [(0, 9472)])), (188, (1, 1, [(23, 6923)])), (197, (4, 2, [(0, 8960)])), (198, (1, 1, [(23, 6924)])), (224, (2, 2, [(0, 7936)])), (231, (1, 1, [(23, 6926)])), (236, (2, 2, [(0, 8448)])), (237, (1, 1, [(23, 6927)])), (242, (2, 2, [(0, 8704)]))] : List (Nat × (Nat × Nat × List (Nat × Nat)))), MOKr 27 (ownS 27) q.1 q.2 := (List.forall_mem_cons.mpr ⟨mr_27_0, (List.forall_mem_cons.mpr ⟨mr_27_1, (List.forall_mem_cons.mpr ⟨mr_27_2, (List.forall_mem_cons.mpr ⟨mr_27_3, (List.forall_mem_cons.mpr ⟨mr_27_4, (List.forall_mem_cons.mpr ⟨mr_27_5, (List.forall_mem_cons.mpr ⟨mr_27_6, (List.forall_mem_cons.mpr ⟨mr_27_7, (List.forall_mem_cons.mpr ⟨mr_27_8, (List.forall_mem_cons.mpr ⟨mr_27_9, (List.forall_mem_cons.mpr ⟨mr_27_10, (List.forall_mem_cons.mpr ⟨mr_27_11, (List.forall_mem_cons.mpr ⟨mr_27_12, (List.forall_mem_cons.mpr ⟨mr_27_13, (List.forall_mem_cons.mpr ⟨mr_27_14, (List.forall_mem_cons.mpr ⟨mr_27_15, (List.forall_mem_cons.mpr ⟨mr_27_16, (List.forall_mem_cons.mpr ⟨mr_27_17, (List.forall_mem_cons.mpr ⟨mr_27_18, (List.forall_mem_cons.mpr ⟨mr_27_19, (List.forall_mem_cons.mpr ⟨mr_27_20, (List.forall_mem_cons.mpr ⟨mr_27_21, (List.forall_mem_cons.mpr ⟨mr_27_22, (List.forall_mem_cons.mpr ⟨mr_27_23, (List.forall_mem_cons.mpr ⟨mr_27_24, (List.forall_mem_cons.mpr ⟨mr_27_25, (List.forall_mem_cons.mpr ⟨mr_27_26, (List.forall_mem_cons.mpr ⟨mr_27_27, (List.forall_mem_cons.mpr ⟨mr_27_28, (List.forall_mem_cons.mpr ⟨mr_27_29, (List.forall_mem_cons.mpr ⟨mr_27_30, (List.forall_mem_cons.mpr ⟨mr_27_31, (List.forall_mem_cons.mpr ⟨mr_27_32, (List.forall_mem_cons.mpr ⟨mr_27_33, (fun _ h => nomatch h)⟩)⟩)⟩)⟩)⟩)⟩)⟩)⟩)⟩)⟩)⟩)⟩)⟩)⟩)⟩)⟩)⟩)⟩)⟩)⟩)⟩)⟩)⟩)⟩)⟩)⟩)⟩)⟩)⟩)⟩)⟩)⟩)⟩)⟩)
theorem mr_28_0 : MOKr 28 (ownS 28) 1 (5, 2, [(0, 20006)]) := fun _ => (List.forall_mem_cons.mpr ⟨(fun h => absurd h (by decide)), (fun _ h => nomatch h)⟩)
theorem mr_28 : ∀ q ∈ ([(1, (5, 2, [(0, 20006)]))] : List (Nat × (Nat × Nat × List (Nat × Nat)))), MOKr 28 (ownS 28) q.1 q.2 := (List.forall_mem_cons.mpr ⟨mr_28_0, (fun _ h => nomatch h)⟩)
theorem mr_29_0 : MOKr 29 (ownS 29) 1 (1, 2, [(0, 20000)]) := fun _ => (List.forall_mem_cons.mpr ⟨(fun h => absurd h (by decide)), (fun _ h => nomatch h)⟩)
theorem mr_29_1 : MOKr 29 (ownS 29) 23 (2, 1, [(31, 9473), (32, 9729), (33, 9985)]) := fun _ => (List.forall_mem_cons.mpr ⟨(fun _ => ⟨mq9473, mk9473, Or.inl ⟨mc9473, ⟨by decide, (RX24, TX24, 3), rfl, rfl⟩, q1642, Or.inr ⟨⟨"OldWeather$Test", "is", "(LOldWeather$Setting;)Z"⟩, rfl, q1638, q1640, q1641, q1639, ⟨by decide, by decide, by decide +kernel⟩⟩⟩⟩), (List.forall_mem_cons.mpr ⟨(fun _ => ⟨mq9729, mk9729, Or.inl ⟨mc9729, ⟨by decide, (RX25, TX25, 1), rfl, rfl⟩, q1668, Or.inr ⟨⟨"OldWeather$Test", "is", "(LOldWeather$Setting;)Z"⟩, rfl, q1638, q1640, q1667, q1639, ⟨by decide, by decide, by decide +kernel⟩⟩⟩⟩), (List.forall_mem_cons.mpr ⟨(fun _ => ⟨mq9985, mk9985, Or.inl ⟨mc9985, ⟨by decide, (RX26, TX26, 2), rfl, rfl⟩, q1671, Or.inr ⟨⟨"OldWeather$Test", "is", "(LOldWeather$Setting;)Z"⟩, rfl, q1638, q1640, q1677, q1639, ⟨by decide, by decide, by decide +kernel⟩⟩⟩⟩), (fun _ h => nomatch h)⟩)⟩)⟩)
theorem mr_29_2 : MOKr 29 (ownS 29) 33 (2, 1, [(27, 7937), (28, 8449), (29, 8705), (30, 8961)]) := fun _ => (List.forall_mem_cons.mpr ⟨(fun _ => ⟨mq7937, mk7937, Or.inl ⟨mc7937, ⟨by decide, (RX19, TX19, 1), rfl, rfl⟩, q1658, Or.inr ⟨⟨"OldWeather$Sum", "of", "(LOldWeather$Setting;)J"⟩, rfl, q1678, q1646, q1657, q1645, ⟨by decide, by decide, by decide +kernel⟩⟩⟩⟩), (List.forall_mem_cons.mpr ⟨(fun _ => ⟨mq8449, mk8449, Or.inl ⟨mc8449, ⟨by decide, (RX20, TX20, 1), rfl, rfl⟩, q1655, Or.inr ⟨⟨"OldWeather$Sum", "of", "(LOldWeather$Setting;)J"⟩, rfl, q1678, q1646, q1654, q1645, ⟨by decide, by decide, by decide +kernel⟩⟩⟩⟩), (List.forall_mem_cons.mpr ⟨(fun _ => ⟨mq8705, mk8705, Or.inl ⟨mc8705, ⟨by decide, (RX21, TX21, 1), rfl, rfl⟩, q1648, Or.inr ⟨⟨"OldWeather$Sum", "of", "(LOldWeather$Setting;)J"⟩, rfl, q1678, q1646, q1647, q1645, ⟨by decide, by decide, by decide +kernel⟩⟩⟩⟩), (List.forall_mem_cons.mpr ⟨(fun _ => ⟨mq8961, mk8961, Or.inl ⟨mc8961, ⟨by decide, (RX22, TX22, 3), rfl, rfl⟩, q1661, Or.inr ⟨⟨"OldWeather$Sum", "of", "(LOldWeather$Setting;)J"⟩, rfl, q1678, q1646, q1666, q1645, ⟨by decide, by decide, by decide +kernel⟩⟩⟩⟩), (fun _ h => nomatch h)⟩)⟩)⟩)⟩)
theorem mr_29 : ∀ q ∈ ([(1, (1, 2, [(0, 20000)])), (23, (2, 1, [(31, 9473), (32, 9729), (33, 9985)])), (33, (2, 1, [(27, 7937), (28, 8449), (29, 8705), (30, 8961)]))] : List (Nat × (Nat × Nat × List (Nat × Nat)))), MOKr 29 (ownS 29) q.1 q.2 := (List.forall_mem_cons.mpr ⟨mr_29_0, (List.forall_mem_cons.mpr ⟨mr_29_1, (List.forall_mem_cons.mpr ⟨mr_29_2, (fun _ h => nomatch h)⟩)⟩)⟩)
theorem mr_30_0 : MOKr 30 (ownS 30) 1 (1, 2, [(0, 20000)]) := fun _ => (List.forall_mem_cons.mpr ⟨(fun h => absurd h (by decide)), (fun _ h => nomatch h)⟩)
theorem mr_30 : ∀ q ∈ ([(1, (1, 2, [(0, 20000)]))] : List (Nat × (Nat × Nat × List (Nat × Nat)))), MOKr 30 (ownS 30) q.1 q.2 := (List.forall_mem_cons.mpr ⟨mr_30_0, (fun _ h => nomatch h)⟩)
theorem mr_31_0 : MOKr 31 (ownS 31) 13 (2, 1, [(27, 7937), (28, 8449), (29, 8705), (30, 8961)]) := fun _ => (List.forall_mem_cons.mpr ⟨(fun _ => ⟨mq7937, mk7937, Or.inl ⟨mc7937, ⟨by decide, (RX19, TX19, 1), rfl, rfl⟩, q1658, Or.inr ⟨⟨"OldWeather$Sum", "of", "(LOldWeather$Setting;)J"⟩, rfl, q1660, q1646, q1657, q1645, ⟨by decide, by decide, by decide +kernel⟩⟩⟩⟩), (List.forall_mem_cons.mpr ⟨(fun _ => ⟨mq8449, mk8449, Or.inl ⟨mc8449, ⟨by decide, (RX20, TX20, 1), rfl, rfl⟩, q1655, Or.inr ⟨⟨"OldWeather$Sum", "of", "(LOldWeather$Setting;)J"⟩, rfl, q1660, q1646, q1654, q1645, ⟨by decide, by decide, by decide +kernel⟩⟩⟩⟩), (List.forall_mem_cons.mpr ⟨(fun _ => ⟨mq8705, mk8705, Or.inl ⟨mc8705, ⟨by decide, (RX21, TX21, 1), rfl, rfl⟩, q1648, Or.inr ⟨⟨"OldWeather$Sum", "of", "(LOldWeather$Setting;)J"⟩, rfl, q1660, q1646, q1647, q1645, ⟨by decide, by decide, by decide +kernel⟩⟩⟩⟩), (List.forall_mem_cons.mpr ⟨(fun _ => ⟨mq8961, mk8961, Or.inl ⟨mc8961, ⟨by decide, (RX22, TX22, 3), rfl, rfl⟩, q1661, Or.inr ⟨⟨"OldWeather$Sum", "of", "(LOldWeather$Setting;)J"⟩, rfl, q1660, q1646, q1666, q1645, ⟨by decide, by decide, by decide +kernel⟩⟩⟩⟩), (fun _ h => nomatch h)⟩)⟩)⟩)⟩)
theorem mr_31_1 : MOKr 31 (ownS 31) 1 (1, 2, [(0, 7680)]) := fun _ => (List.forall_mem_cons.mpr ⟨(fun _ => ⟨mq7680, mk7680, ⟨mc7680, rfl, q1407, rfl, rfl, Or.inr ⟨_, q1406⟩⟩⟩), (fun _ h => nomatch h)⟩)
theorem mr_31 : ∀ q ∈ ([(13, (2, 1, [(27, 7937), (28, 8449), (29, 8705), (30, 8961)])), (1, (1, 2, [(0, 7680)]))] : List (Nat × (Nat × Nat × List (Nat × Nat)))), MOKr 31 (ownS 31) q.1 q.2 := (List.forall_mem_cons.mpr ⟨mr_31_0, (List.forall_mem_cons.mpr ⟨mr_31_1, (fun _ h => nomatch h)⟩)⟩)
theorem mr_32_0 : MOKr 32 (ownS 32) 9 (1, 2, [(0, 20000)]) := fun _ => (List.forall_mem_cons.mpr ⟨(fun h => absurd h (by decide)), (fun _ h => nomatch h)⟩)
theorem mr_32_1 : MOKr 32 (ownS 32) 40 (1, 1, [(16, 2821)]) := fun _ => (List.forall_mem_cons.mpr ⟨(fun _ => ⟨mq2821, mk2821, Or.inl ⟨mc2821, ⟨by decide, (RJ2, TJ2, 3), rfl, rfl⟩, q903, Or.inl ⟨q904, Or.inl ⟨rfl, Or.inl q1586⟩⟩⟩⟩), (fun _ h => nomatch h)⟩)
theorem mr_32_2 : MOKr 32 (ownS 32) 46 (2, 1, [(16, 2825)]) := fun _ => (List.forall_mem_cons.mpr ⟨(fun _ => ⟨mq2825, mk2825, Or.inl ⟨mc2825, ⟨by decide, (RJ2, TJ2, 3), rfl, rfl⟩, q1139, Or.inl ⟨q1140, Or.inl ⟨rfl, Or.inl q1587⟩⟩⟩⟩), (fun _ h => nomatch h)⟩)
theorem mr_32_3 : MOKr 32 (ownS 32) 55 (2, 1, [(12, 8194)]) := fun _ => (List.forall_mem_cons.mpr ⟨(fun _ => ⟨mq8194, mk8194, Or.inl ⟨mc8194, ⟨by decide, (RX2, TX2, 7), rfl, rfl⟩, q1591, Or.inl ⟨qs34, Or.inl ⟨rfl, Or.inl q1589⟩⟩⟩⟩), (fun _ h => nomatch h)⟩)
theorem mr_32 : ∀ q ∈ ([(9, (1, 2, [(0, 20000)])), (40, (1, 1, [(16, 2821)])), (46, (2, 1, [(16, 2825)])), (55, (2, 1, [(12, 8194)]))] : List (Nat × (Nat × Nat × List (Nat × Nat)))), MOKr 32 (ownS 32) q.1 q.2 := (List.forall_mem_cons.mpr ⟨mr_32_0, (List.forall_mem_cons.mpr ⟨mr_32_1, (List.forall_mem_cons.mpr ⟨mr_32_2, (List.forall_mem_cons.mpr ⟨mr_32_3, (fun _ h => nomatch h)⟩)⟩)⟩)⟩)
theorem mr_33_0 : MOKr 33 (ownS 33) 1 (1, 2, [(0, 7680)]) := fun _ => (List.forall_mem_cons.mpr ⟨(fun _ => ⟨mq7680, mk7680, ⟨mc7680, rfl, q1407, rfl, rfl, Or.inr ⟨_, q1425⟩⟩⟩), (fun _ h => nomatch h)⟩)
theorem mr_33 : ∀ q ∈ ([(1, (1, 2, [(0, 7680)]))] : List (Nat × (Nat × Nat × List (Nat × Nat)))), MOKr 33 (ownS 33) q.1 q.2 := (List.forall_mem_cons.mpr ⟨mr_33_0, (fun _ h => nomatch h)⟩)
theorem mr_34_0 : MOKr 34 (ownS 34) 13 (2, 1, [(13, 11009)]) := fun _ => (List.forall_mem_cons.mpr ⟨(fun _ => ⟨mq11009, mk11009, Or.inl ⟨mc11009, ⟨by decide, (RX3, TX3, 8), rfl, rfl⟩, q1651, Or.inl ⟨q1652, Or.inl ⟨rfl, Or.inl q1650⟩⟩⟩⟩), (fun _ h => nomatch h)⟩)
theorem mr_34_1 : MOKr 34 (ownS 34) 1 (1, 2, [(0, 7680)]) := fun _ => (List.forall_mem_cons.mpr ⟨(fun _ => ⟨mq7680, mk7680, ⟨mc7680, rfl, q1407, rfl, rfl, Or.inr ⟨_, q1446⟩⟩⟩), (fun _ h => nomatch h)⟩)
theorem mr_34 : ∀ q ∈ ([(13, (2, 1, [(13, 11009)])), (1, (1, 2, [(0, 7680)]))] : List (Nat × (Nat × Nat × List (Nat × Nat)))), MOKr 34 (ownS 34) q.1 q.2 := (List.forall_mem_cons.mpr ⟨mr_34_0, (List.forall_mem_cons.mpr ⟨mr_34_1, (fun _ h => nomatch h)⟩)⟩)
theorem mr_35_0 : MOKr 35 (ownS 35) 22 (2, 1, [(27, 7937), (28, 8449), (29, 8705), (30, 8961)]) := fun _ => (List.forall_mem_cons.mpr ⟨(fun _ => ⟨mq7937, mk7937, Or.inl ⟨mc7937, ⟨by decide, (RX19, TX19, 1), rfl, rfl⟩, q1658, Or.inr ⟨⟨"OldWeather$Sum", "of", "(LOldWeather$Setting;)J"⟩, rfl, q1663, q1646, q1657, q1645, ⟨by decide, by decide, by decide +kernel⟩⟩⟩⟩), (List.forall_mem_cons.mpr ⟨(fun _ => ⟨mq8449, mk8449, Or.inl ⟨mc8449, ⟨by decide, (RX20, TX20, 1), rfl, rfl⟩, q1655, Or.inr ⟨⟨"OldWeather$Sum", "of", "(LOldWeather$Setting;)J"⟩, rfl, q1663, q1646, q1654, q1645, ⟨by decide, by decide, by decide +kernel⟩⟩⟩⟩), (List.forall_mem_cons.mpr ⟨(fun _ => ⟨mq8705, mk8705, Or.inl ⟨mc8705, ⟨by decide, (RX21, TX21, 1), rfl, rfl⟩, q1648, Or.inr ⟨⟨"OldWeather$Sum", "of", "(LOldWeather$Setting;)J"⟩, rfl, q1663, q1646, q1647, q1645, ⟨by decide, by decide, by decide +kernel⟩⟩⟩⟩), (List.forall_mem_cons.mpr ⟨(fun _ => ⟨mq8961, mk8961, Or.inl ⟨mc8961, ⟨by decide, (RX22, TX22, 3), rfl, rfl⟩, q1661, Or.inr ⟨⟨"OldWeather$Sum", "of", "(LOldWeather$Setting;)J"⟩, rfl, q1663, q1646, q1666, q1645, ⟨by decide, by decide, by decide +kernel⟩⟩⟩⟩), (fun _ h => nomatch h)⟩)⟩)⟩)⟩)
theorem mr_35_1 : MOKr 35 (ownS 35) 3 (1, 2, [(0, 7680)]) := fun _ => (List.forall_mem_cons.mpr ⟨(fun _ => ⟨mq7680, mk7680, ⟨mc7680, rfl, q1407, rfl, rfl, Or.inr ⟨_, q1458⟩⟩⟩), (fun _ h => nomatch h)⟩)
theorem mr_35 : ∀ q ∈ ([(22, (2, 1, [(27, 7937), (28, 8449), (29, 8705), (30, 8961)])), (3, (1, 2, [(0, 7680)]))] : List (Nat × (Nat × Nat × List (Nat × Nat)))), MOKr 35 (ownS 35) q.1 q.2 := (List.forall_mem_cons.mpr ⟨mr_35_0, (List.forall_mem_cons.mpr ⟨mr_35_1, (fun _ h => nomatch h)⟩)⟩)
theorem mr_36_0 : MOKr 36 (ownS 36) 1 (1, 2, [(0, 20000)]) := fun _ => (List.forall_mem_cons.mpr ⟨(fun h => absurd h (by decide)), (fun _ h => nomatch h)⟩)
theorem mr_36 : ∀ q ∈ ([(1, (1, 2, [(0, 20000)]))] : List (Nat × (Nat × Nat × List (Nat × Nat)))), MOKr 36 (ownS 36) q.1 q.2 := (List.forall_mem_cons.mpr ⟨mr_36_0, (fun _ h => nomatch h)⟩)
theorem mr_37_0 : MOKr 37 (ownS 37) 20 (2, 1, [(27, 7937), (28, 8449), (29, 8705), (30, 8961)]) := fun _ => (List.forall_mem_cons.mpr ⟨(fun _ => ⟨mq7937, mk7937, Or.inl ⟨mc7937, ⟨by decide, (RX19, TX19, 1), rfl, rfl⟩, q1658, Or.inr ⟨⟨"OldWeather$Sum", "of", "(LOldWeather$Setting;)J"⟩, rfl, q1644, q1646, q1657, q1645, ⟨by decide, by decide, by decide +kernel⟩⟩⟩⟩), (List.forall_mem_cons.mpr ⟨(fun _ => ⟨mq8449, mk8449, Or.inl ⟨mc8449, ⟨by decide, (RX20, TX20, 1), rfl, rfl⟩, q1655, Or.inr ⟨⟨"OldWeather$Sum", "of", "(LOldWeather$Setting;)J"⟩, rfl, q1644, q1646, q1654, q1645, ⟨by decide, by decide, by decide +kernel⟩⟩⟩⟩), (List.forall_mem_cons.mpr ⟨(fun _ => ⟨mq8705, mk8705, Or.inl ⟨mc8705, ⟨by decide, (RX21, TX21, 1), rfl, rfl⟩, q1648, Or.inr ⟨⟨"OldWeather$Sum", "of", "(LOldWeather$Setting;)J"⟩, rfl, q1644, q1646, q1647, q1645, ⟨by decide, by decide, by decide +kernel⟩⟩⟩⟩), (List.forall_mem_cons.mpr ⟨(fun _ => ⟨mq8961, mk8961, Or.inl ⟨mc8961, ⟨by decide, (RX22, TX22, 3), rfl, rfl⟩, q1661, Or.inr ⟨⟨"OldWeather$Sum", "of", "(LOldWeather$Setting;)J"⟩, rfl, q1644, q1646, q1666, q1645, ⟨by decide, by decide, by decide +kernel⟩⟩⟩⟩), (fun _ h => nomatch h)⟩)⟩)⟩)⟩)
theorem mr_37_1 : MOKr 37 (ownS 37) 1 (1, 2, [(0, 9216)]) := fun _ => (List.forall_mem_cons.mpr ⟨(fun _ => ⟨mq9216, mk9216, ⟨mc9216, rfl, q1512, rfl, rfl, Or.inr ⟨_, q1511⟩⟩⟩), (fun _ h => nomatch h)⟩)
theorem mr_37 : ∀ q ∈ ([(20, (2, 1, [(27, 7937), (28, 8449), (29, 8705), (30, 8961)])), (1, (1, 2, [(0, 9216)]))] : List (Nat × (Nat × Nat × List (Nat × Nat)))), MOKr 37 (ownS 37) q.1 q.2 := (List.forall_mem_cons.mpr ⟨mr_37_0, (List.forall_mem_cons.mpr ⟨mr_37_1, (fun _ h => nomatch h)⟩)⟩)
theorem mr_38_0 : MOKr 38 (ownS 38) 13 (2, 1, [(31, 9473), (32, 9729), (33, 9985)]) := fun _ => (List.forall_mem_cons.mpr ⟨(fun _ => ⟨mq9473, mk9473, Or.inl ⟨mc9473, ⟨by decide, (RX24, TX24, 3), rfl, rfl⟩, q1642, Or.inr ⟨⟨"OldWeather$Test", "is", "(LOldWeather$Setting;)Z"⟩, rfl, q1670, q1640, q1641, q1639, ⟨by decide, by decide, by decide +kernel⟩⟩⟩⟩), (List.forall_mem_cons.mpr ⟨(fun _ => ⟨mq9729, mk9729, Or.inl ⟨mc9729, ⟨by decide, (RX25, TX25, 1), rfl, rfl⟩, q1668, Or.inr ⟨⟨"OldWeather$Test", "is", "(LOldWeather$Setting;)Z"⟩, rfl, q1670, q1640, q1667, q1639, ⟨by decide, by decide, by decide +kernel⟩⟩⟩⟩), (List.forall_mem_cons.mpr ⟨(fun _ => ⟨mq9985, mk9985, Or.inl ⟨mc9985, ⟨by decide, (RX26, TX26, 2), rfl, rfl⟩, q1671, Or.inr ⟨⟨"OldWeather$Test", "is", "(LOldWeather$Setting;)Z"⟩, rfl, q1670, q1640, q1677, q1639, ⟨by decide, by decide, by decide +kernel⟩⟩⟩⟩), (fun _ h => nomatch h)⟩)⟩)⟩)
theorem mr_38_1 : MOKr 38 (ownS 38) 1 (1, 2, [(0, 9216)]) := fun _ => (List.forall_mem_cons.mpr ⟨(fun _ => ⟨mq9216, mk9216, ⟨mc9216, rfl, q1512, rfl, rfl, Or.inr ⟨_, q1530⟩⟩⟩), (fun _ h => nomatch h)⟩)
theorem mr_38 : ∀ q ∈ ([(13, (2, 1, [(31, 9473), (32, 9729), (33, 9985)])), (1, (1, 2, [(0, 9216)]))] : List (Nat × (Nat × Nat × List (Nat × Nat)))), MOKr 38 (ownS 38) q.1 q.2 := (List.forall_mem_cons.mpr ⟨mr_38_0, (List.forall_mem_cons.mpr ⟨mr_38_1, (fun _ h => nomatch h)⟩)⟩)
theorem mr_39_0 : MOKr 39 (ownS 39) 9 (2, 2, [(0, 2816)]) := fun _ => (List.forall_mem_cons.mpr ⟨(fun _ => ⟨mq2816, mk2816, ⟨mc2816, rfl, q209, rfl, rfl, Or.inl q1543⟩⟩), (fun _ h => nomatch h)⟩)
theorem mr_39_1 : MOKr 39 (ownS 39) 22 (1, 1, [(16, 2821)]) := fun _ => (List.forall_mem_cons.mpr ⟨(fun _ => ⟨mq2821, mk2821, Or.inl ⟨mc2821, ⟨by decide, (RJ2, TJ2, 3), rfl, rfl⟩, q903, Or.inl ⟨q904, Or.inl ⟨rfl, Or.inl q1673⟩⟩⟩⟩), (fun _ h => nomatch h)⟩)
theorem mr_39_2 : MOKr 39 (ownS 39) 26 (2, 1, [(16, 2825)]) := fun _ => (List.forall_mem_cons.mpr ⟨(fun _ => ⟨mq2825, mk2825, Or.inl ⟨mc2825, ⟨by decide, (RJ2, TJ2, 3), rfl, rfl⟩, q1139, Or.inl ⟨q1140, Or.inl ⟨rfl, Or.inl q1674⟩⟩⟩⟩), (fun _ h => nomatch h)⟩)
theorem mr_39_3 : MOKr 39 (ownS 39) 30 (2, 1, [(31, 9473), (32, 9729), (33, 9985)]) := fun _ => (List.forall_mem_cons.mpr ⟨(fun _ => ⟨mq9473, mk9473, Or.inl ⟨mc9473, ⟨by decide, (RX24, TX24, 3), rfl, rfl⟩, q1642, Or.inr ⟨⟨"OldWeather$Test", "is", "(LOldWeather$Setting;)Z"⟩, rfl, q1676, q1640, q1641, q1639, ⟨by decide, by decide, by decide +kernel⟩⟩⟩⟩), (List.forall_mem_cons.mpr ⟨(fun _ => ⟨mq9729, mk9729, Or.inl ⟨mc9729, ⟨by decide, (RX25, TX25, 1), rfl, rfl⟩, q1668, Or.inr ⟨⟨"OldWeather$Test", "is", "(LOldWeather$Setting;)Z"⟩, rfl, q1676, q1640, q1667, q1639, ⟨by decide, by decide, by decide +kernel⟩⟩⟩⟩), (List.forall_mem_cons.mpr ⟨(fun _ => ⟨mq9985, mk9985, Or.inl ⟨mc9985, ⟨by decide, (RX26, TX26, 2), rfl, rfl⟩, q1671, Or.inr ⟨⟨"OldWeather$Test", "is", "(LOldWeather$Setting;)Z"⟩, rfl, q1676, q1640, q1677, q1639, ⟨by decide, by decide, by decide +kernel⟩⟩⟩⟩), (fun _ h => nomatch h)⟩)⟩)⟩)
theorem mr_39_4 : MOKr 39 (ownS 39) 1 (1, 2, [(0, 9216)]) := fun _ => (List.forall_mem_cons.mpr ⟨(fun _ => ⟨mq9216, mk9216, ⟨mc9216, rfl, q1512, rfl, rfl, Or.inr ⟨_, q1541⟩⟩⟩), (fun _ h => nomatch h)⟩)
theorem mr_39 : ∀ q ∈ ([(9, (2, 2, [(0, 2816)])), (22, (1, 1, [(16, 2821)])), (26, (2, 1, [(16, 2825)])), (30, (2, 1, [(31, 9473), (32, 9729), (33, 9985)])), (1, (1, 2, [(0, 9216)]))] : List (Nat × (Nat × Nat × List (Nat × Nat)))), MOKr 39 (ownS 39) q.1 q.2 := (List.forall_mem_cons.mpr ⟨mr_39_0, (List.forall_mem_cons.mpr ⟨mr_39_1, (List.forall_mem_cons.mpr ⟨mr_39_2, (List.forall_mem_cons.mpr ⟨mr_39_3, (List.forall_mem_cons.mpr ⟨mr_39_4, (fun _ h => nomatch h)⟩)⟩)⟩)⟩)⟩)
theorem mr_40_0 : MOKr 40 (ownS 40) 1 (1, 2, [(0, 20000)]) := fun _ => (List.forall_mem_cons.mpr ⟨(fun h => absurd h (by decide)), (fun _ h => nomatch h)⟩)
theorem mr_40 : ∀ q ∈ ([(1, (1, 2, [(0, 20000)]))] : List (Nat × (Nat × Nat × List (Nat × Nat)))), MOKr 40 (ownS 40) q.1 q.2 := (List.forall_mem_cons.mpr ⟨mr_40_0, (fun _ h => nomatch h)⟩)
theorem mr_41_0 : MOKr 41 (ownS 41) 1 (1, 2, [(0, 20000)]) := fun _ => (List.forall_mem_cons.mpr ⟨(fun h => absurd h (by decide)), (fun _ h => nomatch h)⟩)
theorem mr_41 : ∀ q ∈ ([(1, (1, 2, [(0, 20000)]))] : List (Nat × (Nat × Nat × List (Nat × Nat)))), MOKr 41 (ownS 41) q.1 q.2 := (List.forall_mem_cons.mpr ⟨mr_41_0, (fun _ h => nomatch h)⟩)
theorem mr_42 : ∀ q ∈ ([] : List (Nat × (Nat × Nat × List (Nat × Nat)))), MOKr 42 (ownS 42) q.1 q.2 := (fun _ h => nomatch h)
theorem mr_43_0 : MOKr 43 (ownS 43) 1 (1, 2, [(0, 20000)]) := fun _ => (List.forall_mem_cons.mpr ⟨(fun h => absurd h (by decide)), (fun _ h => nomatch h)⟩)
theorem mr_43_1 : MOKr 43 (ownS 43) 9 (1, 2, [(0, 11264)]) := fun _ => (List.forall_mem_cons.mpr ⟨(fun _ => ⟨mq11264, mk11264, ⟨mc11264, rfl, q408, rfl, rfl, Or.inl q407⟩⟩), (fun _ h => nomatch h)⟩)
theorem mr_43 : ∀ q ∈ ([(1, (1, 2, [(0, 20000)])), (9, (1, 2, [(0, 11264)]))] : List (Nat × (Nat × Nat × List (Nat × Nat)))), MOKr 43 (ownS 43) q.1 q.2 := (List.forall_mem_cons.mpr ⟨mr_43_0, (List.forall_mem_cons.mpr ⟨mr_43_1, (fun _ h => nomatch h)⟩)⟩)
theorem mr_44_0 : MOKr 44 (ownS 44) 1 (5, 2, [(0, 20006)]) := fun _ => (List.forall_mem_cons.mpr ⟨(fun h => absurd h (by decide)), (fun _ h => nomatch h)⟩)
theorem mr_44 : ∀ q ∈ ([(1, (5, 2, [(0, 20006)]))] : List (Nat × (Nat × Nat × List (Nat × Nat)))), MOKr 44 (ownS 44) q.1 q.2 := (List.forall_mem_cons.mpr ⟨mr_44_0, (fun _ h => nomatch h)⟩)
theorem mr_45_0 : MOKr 45 (ownS 45) 9 (1, 2, [(0, 20000)]) := fun _ => (List.forall_mem_cons.mpr ⟨(fun h => absurd h (by decide)), (fun _ h => nomatch h)⟩)
theorem mr_45_1 : MOKr 45 (ownS 45) 50 (1, 1, [(16, 2821)]) := fun _ => (List.forall_mem_cons.mpr ⟨(fun _ => ⟨mq2821, mk2821, Or.inl ⟨mc2821, ⟨by decide, (RJ2, TJ2, 3), rfl, rfl⟩, q903, Or.inl ⟨q904, Or.inl ⟨rfl, Or.inl q1607⟩⟩⟩⟩), (fun _ h => nomatch h)⟩)
theorem mr_45_2 : MOKr 45 (ownS 45) 56 (2, 1, [(16, 2825)]) := fun _ => (List.forall_mem_cons.mpr ⟨(fun _ => ⟨mq2825, mk2825, Or.inl ⟨mc2825, ⟨by decide, (RJ2, TJ2, 3), rfl, rfl⟩, q1139, Or.inl ⟨q1140, Or.inl ⟨rfl, Or.inl q1608⟩⟩⟩⟩), (fun _ h => nomatch h)⟩)
theorem mr_45_3 : MOKr 45 (ownS 45) 62 (1, 2, [(0, 20007)]) := fun _ => (List.forall_mem_cons.mpr ⟨(fun h => absurd h (by decide)), (fun _ h => nomatch h)⟩)
theorem mr_45_4 : MOKr 45 (ownS 45) 76 (3, 1, [(14, 11522)]) := fun _ => (List.forall_mem_cons.mpr ⟨(fun _ => ⟨mq11522, mk11522, Or.inl ⟨mc11522, ⟨by decide, (RX5, TX5, 7), rfl, rfl⟩, q1622, Or.inl ⟨qs37, Or.inl ⟨rfl, Or.inl q1620⟩⟩⟩⟩), (fun _ h => nomatch h)⟩)
theorem mr_45_5 : MOKr 45 (ownS 45) 96 (4, 1, [(14, 11524)]) := fun _ => (List.forall_mem_cons.mpr ⟨(fun _ => ⟨mq11524, mk11524, Or.inl ⟨mc11524, ⟨by decide, (RX5, TX5, 7), rfl, rfl⟩, q1684, Or.inl ⟨q1685, Or.inl ⟨rfl, Or.inl q1683⟩⟩⟩⟩), (fun _ h => nomatch h)⟩)
theorem mr_45_6 : MOKr 45 (ownS 45) 34 (1, 1, [(10, 5159)]) := fun _ => (List.forall_mem_cons.mpr ⟨(fun _ => ⟨mq5159, mk5159, Or.inl ⟨mc5159, ⟨by decide, (RX0, TX0, 51), rfl, rfl⟩, q1136, Or.inl ⟨qs13, Or.inl ⟨rfl, Or.inr ⟨_, q1606⟩⟩⟩⟩⟩), (fun _ h => nomatch h)⟩)
theorem mr_45_7 : MOKr 45 (ownS 45) 65 (3, 1, [(10, 5169)]) := fun _ => (List.forall_mem_cons.mpr ⟨(fun _ => ⟨mq5169, mk5169, Or.inl ⟨mc5169, ⟨by decide, (RX0, TX0, 51), rfl, rfl⟩, q1613, Or.inl ⟨qs35, Or.inl ⟨rfl, Or.inr ⟨_, q1611⟩⟩⟩⟩⟩), (fun _ h => nomatch h)⟩)
theorem mr_45_8 : MOKr 45 (ownS 45) 72 (3, 0, [(0, 5122)]) := fun _ => (List.forall_mem_cons.mpr ⟨(fun _ => ⟨mq5122, mk5122, ⟨mc5122, q712, rfl, Or.inr ⟨_, q1619⟩⟩⟩), (fun _ h => nomatch h)⟩)
theorem mr_45_9 : MOKr 45 (ownS 45) 89 (4, 1, [(10, 5171)]) := fun _ => (List.forall_mem_cons.mpr ⟨(fun _ => ⟨mq5171, mk5171, Or.inl ⟨mc5171, ⟨by decide, (RX0, TX0, 51), rfl, rfl⟩, q1626, Or.inl ⟨qs38, Or.inl ⟨rfl, Or.inr ⟨_, q1624⟩⟩⟩⟩⟩), (fun _ h => nomatch h)⟩)
theorem mr_45 : ∀ q ∈ ([(9, (1, 2, [(0, 20000)])), (50, (1, 1, [(16, 2821)])), (56, (2, 1, [(16, 2825)])), (62, (1, 2, [(0, 20007)])), (76, (3, 1, [(14, 11522)])), (96, (4, 1, [(14, 11524)])), (34, (1, 1, [(10, 5159)])), (65, (3, 1, [(10, 5169)])), (72, (3, 0, [(0, 5122)])), (89, (4, 1, [(10, 5171)]))] : List (Nat × (Nat × Nat × List (Nat × Nat)))), MOKr 45 (ownS 45) q.1 q.2 := (List.forall_mem_cons.mpr ⟨mr_45_0, (List.forall_mem_cons.mpr ⟨mr_45_1, (List.forall_mem_cons.mpr ⟨mr_45_2, (List.forall_mem_cons.mpr ⟨mr_45_3, (List.forall_mem_cons.mpr ⟨mr_45_4, (List.forall_mem_cons.mpr ⟨mr_45_5, (List.forall_mem_cons.mpr ⟨mr_45_6, (List.forall_mem_cons.mpr ⟨mr_45_7, (List.forall_mem_cons.mpr ⟨mr_45_8, (List.forall_mem_cons.mpr ⟨mr_45_9, (fun _ h => nomatch h)⟩)⟩)⟩)⟩)⟩)⟩)⟩)⟩)⟩)⟩)
theorem mr_46_0 : MOKr 46 (ownS 46) 9 (1, 2, [(0, 20000)]) := fun _ => (List.forall_mem_cons.mpr ⟨(fun h => absurd h (by decide)), (fun _ h => nomatch h)⟩)
theorem mr_46_1 : MOKr 46 (ownS 46) 53 (2, 1, [(15, 11778)]) := fun _ => (List.forall_mem_cons.mpr ⟨(fun _ => ⟨mq11778, mk11778, Or.inl ⟨mc11778, ⟨by decide, (RX6, TX6, 11), rfl, rfl⟩, q1705, Or.inl ⟨qs41, Or.inl ⟨rfl, Or.inl q1703⟩⟩⟩⟩), (fun _ h => nomatch h)⟩)
theorem mr_46_2 : MOKr 46 (ownS 46) 67 (1, 1, [(16, 2821)]) := fun _ => (List.forall_mem_cons.mpr ⟨(fun _ => ⟨mq2821, mk2821, Or.inl ⟨mc2821, ⟨by decide, (RJ2, TJ2, 3), rfl, rfl⟩, q903, Or.inl ⟨q904, Or.inl ⟨rfl, Or.inl q1712⟩⟩⟩⟩), (fun _ h => nomatch h)⟩)
theorem mr_46_3 : MOKr 46 (ownS 46) 100 (2, 1, [(15, 11781)]) := fun _ => (List.forall_mem_cons.mpr ⟨(fun _ => ⟨mq11781, mk11781, Or.inl ⟨mc11781, ⟨by decide, (RX6, TX6, 11), rfl, rfl⟩, q1754, Or.inl ⟨qs47, Or.inl ⟨rfl, Or.inl q1752⟩⟩⟩⟩), (fun _ h => nomatch h)⟩)
theorem mr_46_4 : MOKr 46 (ownS 46) 104 (3, 1, [(15, 11782)]) := fun _ => (List.forall_mem_cons.mpr ⟨(fun _ => ⟨mq11782, mk11782, Or.inl ⟨mc11782, ⟨by decide, (RX6, TX6, 11), rfl, rfl⟩, q1759, Or.inl ⟨qs48, Or.inl ⟨rfl, Or.inl q1757⟩⟩⟩⟩), (fun _ h => nomatch h)⟩)
theorem mr_46_5 : MOKr 46 (ownS 46) 111 (2, 1, [(12, 8193)]) := fun _ => (List.forall_mem_cons.mpr ⟨(fun _ => ⟨mq8193, mk8193, Or.inl ⟨mc8193, ⟨by decide, (RX2, TX2, 7), rfl, rfl⟩, q1583, Or.inl ⟨q1584, Or.inl ⟨rfl, Or.inl q1707⟩⟩⟩⟩), (fun _ h => nomatch h)⟩)
theorem mr_46_6 : MOKr 46 (ownS 46) 119 (4, 1, [(15, 11779)]) := fun _ => (List.forall_mem_cons.mpr ⟨(fun _ => ⟨mq11779, mk11779, Or.inl ⟨mc11779, ⟨by decide, (RX6, TX6, 11), rfl, rfl⟩, q1710, Or.inl ⟨qs42, Or.inl ⟨rfl, Or.inl q1708⟩⟩⟩⟩), (fun _ h => nomatch h)⟩)
theorem mr_46_7 : MOKr 46 (ownS 46) 126 (2, 0, [(0, 3585)]) := fun _ => (List.forall_mem_cons.mpr ⟨(fun _ => ⟨mq3585, mk3585, ⟨mc3585, q821, rfl, Or.inl q1715⟩⟩), (fun _ h => nomatch h)⟩)
theorem mr_46_8 : MOKr 46 (ownS 46) 132 (2, 0, [(0, 3584)]) := fun _ => (List.forall_mem_cons.mpr ⟨(fun _ => ⟨mq3584, mk3584, ⟨mc3584, q741, rfl, Or.inl q1716⟩⟩), (fun _ h => nomatch h)⟩)
theorem mr_46_9 : MOKr 46 (ownS 46) 135 (3, 1, [(15, 11780)]) := fun _ => (List.forall_mem_cons.mpr ⟨(fun _ => ⟨mq11780, mk11780, Or.inl ⟨mc11780, ⟨by decide, (RX6, TX6, 11), rfl, rfl⟩, q1719, Or.inl ⟨qs43, Or.inl ⟨rfl, Or.inl q1717⟩⟩⟩⟩), (fun _ h => nomatch h)⟩)
theorem mr_46_10 : MOKr 46 (ownS 46) 142 (2, 1, [(16, 2825)]) := fun _ => (List.forall_mem_cons.mpr ⟨(fun _ => ⟨mq2825, mk2825, Or.inl ⟨mc2825, ⟨by decide, (RJ2, TJ2, 3), rfl, rfl⟩, q1139, Or.inl ⟨q1140, Or.inl ⟨rfl, Or.inl q1713⟩⟩⟩⟩), (fun _ h => nomatch h)⟩)
theorem mr_46_11 : MOKr 46 (ownS 46) 50 (1, 1, [(10, 5159)]) := fun _ => (List.forall_mem_cons.mpr ⟨(fun _ => ⟨mq5159, mk5159, Or.inl ⟨mc5159, ⟨by decide, (RX0, TX0, 51), rfl, rfl⟩, q1136, Or.inl ⟨qs13, Or.inl ⟨rfl, Or.inr ⟨_, q1702⟩⟩⟩⟩⟩), (fun _ h => nomatch h)⟩)
theorem mr_46_12 : MOKr 46 (ownS 46) 73 (3, 1, [(10, 5170)]) := fun _ => (List.forall_mem_cons.mpr ⟨(fun _ => ⟨mq5170, mk5170, Or.inl ⟨mc5170, ⟨by decide, (RX0, TX0, 51), rfl, rfl⟩, q1617, Or.inl ⟨qs36, Or.inl ⟨rfl, Or.inr ⟨_, q1721⟩⟩⟩⟩⟩), (fun _ h => nomatch h)⟩)
theorem mr_46_13 : MOKr 46 (ownS 46) 80 (4, 1, [(10, 5175)]) := fun _ => (List.forall_mem_cons.mpr ⟨(fun _ => ⟨mq5175, mk5175, Or.inl ⟨mc5175, ⟨by decide, (RX0, TX0, 51), rfl, rfl⟩, q1724, Or.inl ⟨qs44, Or.inl ⟨rfl, Or.inr ⟨_, q1722⟩⟩⟩⟩⟩), (fun _ h => nomatch h)⟩)
theorem mr_46_14 : MOKr 46 (ownS 46) 96 (4, 1, [(10, 5178)]) := fun _ => (List.forall_mem_cons.mpr ⟨(fun _ => ⟨mq5178, mk5178, Or.inl ⟨mc5178, ⟨by decide, (RX0, TX0, 51), rfl, rfl⟩, q1750, Or.inl ⟨qs46, Or.inl ⟨rfl, Or.inr ⟨_, q1748⟩⟩⟩⟩⟩), (fun _ h => nomatch h)⟩)
theorem mr_46 : ∀ q ∈ ([(9, (1, 2, [(0, 20000)])), (53, (2, 1, [(15, 11778)])), (67, (1, 1, [(16, 2821)])), (100, (2, 1, [(15, 11781)])), (104, (3, 1, [(15, 11782)])), (111, (2, 1, [(12, 8193)])), (119, (4, 1, [(15, 11779)])), (126, (2, 0, [(0, 3585)])), (132, (2, 0, [(0, 3584)])), (135, (3, 1, [(15, 11780)])), (142, (2, 1, [(16, 2825)])), (50, (1, 1, [(10, 5159)])), (73, (3, 1, [(10, 5170)])), (80, (4, 1, [(10, 5175)])), (96, (4, 1, [(10, 5178)]))] : List (Nat × (Nat × Nat × List (Nat × Nat)))), MOKr 46 (ownS 46) q.1 q.2 := (List.forall_mem_cons.mpr ⟨mr_46_0, (List.forall_mem_cons.mpr ⟨mr_46_1, (List.forall_mem_cons.mpr ⟨mr_46_2, (List.forall_mem_cons.mpr ⟨mr_46_3, (List.forall_mem_cons.mpr ⟨mr_46_4, (List.forall_mem_cons.mpr ⟨mr_46_5, (List.forall_mem_cons.mpr ⟨mr_46_6, (List.forall_mem_cons.mpr ⟨mr_46_7, (List.forall_mem_cons.mpr ⟨mr_46_8, (List.forall_mem_cons.mpr ⟨mr_46_9, (List.forall_mem_cons.mpr ⟨mr_46_10, (List.forall_mem_cons.mpr ⟨mr_46_11, (List.forall_mem_cons.mpr ⟨mr_46_12, (List.forall_mem_cons.mpr ⟨mr_46_13, (List.forall_mem_cons.mpr ⟨mr_46_14, (fun _ h => nomatch h)⟩)⟩)⟩)⟩)⟩)⟩)⟩)⟩)⟩)⟩)⟩)⟩)⟩)⟩)⟩)
theorem mr_47_0 : MOKr 47 (ownS 47) 1 (1, 2, [(0, 20000)]) := fun _ => (List.forall_mem_cons.mpr ⟨(fun h => absurd h (by decide)), (fun _ h => nomatch h)⟩)
theorem mr_47_1 : MOKr 47 (ownS 47) 122 (3, 0, [(0, 12034)]) := fun _ => (List.forall_mem_cons.mpr ⟨(fun _ => ⟨mq12034, mk12034, ⟨mc12034, q2234, rfl, Or.inl q2233⟩⟩), (fun _ h => nomatch h)⟩)
theorem mr_47_2 : MOKr 47 (ownS 47) 130 (2, 1, [(36, 12035)]) := fun _ => (List.forall_mem_cons.mpr ⟨(fun _ => ⟨mq12035, mk12035, Or.inl ⟨mc12035, ⟨by decide, (RX7, TX7, 83), rfl, rfl⟩, q2238, Or.inl ⟨qs64, Or.inl ⟨rfl, Or.inl q2236⟩⟩⟩⟩), (fun _ h => nomatch h)⟩)
theorem mr_47_3 : MOKr 47 (ownS 47) 134 (2, 0, [(0, 12040)]) := fun _ => (List.forall_mem_cons.mpr ⟨(fun _ => ⟨mq12040, mk12040, ⟨mc12040, q2258, rfl, Or.inl q2257⟩⟩), (fun _ h => nomatch h)⟩)
theorem mr_47_4 : MOKr 47 (ownS 47) 144 (3, 0, [(0, 12039)]) := fun _ => (List.forall_mem_cons.mpr ⟨(fun _ => ⟨mq12039, mk12039, ⟨mc12039, q2255, rfl, Or.inl q2254⟩⟩), (fun _ h => nomatch h)⟩)
theorem mr_47_5 : MOKr 47 (ownS 47) 148 (4, 0, [(0, 12038)]) := fun _ => (List.forall_mem_cons.mpr ⟨(fun _ => ⟨mq12038, mk12038, ⟨mc12038, q2249, rfl, Or.inl q2248⟩⟩), (fun _ h => nomatch h)⟩)
theorem mr_47_6 : MOKr 47 (ownS 47) 152 (4, 0, [(0, 12041)]) := fun _ => (List.forall_mem_cons.mpr ⟨(fun _ => ⟨mq12041, mk12041, ⟨mc12041, q2261, rfl, Or.inl q2260⟩⟩), (fun _ h => nomatch h)⟩)
theorem mr_47_7 : MOKr 47 (ownS 47) 156 (1, 0, [(0, 12042)]) := fun _ => (List.forall_mem_cons.mpr ⟨(fun _ => ⟨mq12042, mk12042, ⟨mc12042, q2264, rfl, Or.inl q2263⟩⟩), (fun _ h => nomatch h)⟩)
theorem mr_47_8 : MOKr 47 (ownS 47) 169 (3, 1, [(36, 12044)]) := fun _ => (List.forall_mem_cons.mpr ⟨(fun _ => ⟨mq12044, mk12044, Or.inl ⟨mc12044, ⟨by decide, (RX7, TX7, 83), rfl, rfl⟩, q2273, Or.inl ⟨qs65, Or.inl ⟨rfl, Or.inl q2271⟩⟩⟩⟩), (fun _ h => nomatch h)⟩)
theorem mr_47_9 : MOKr 47 (ownS 47) 175 (1, 0, [(0, 12046)]) := fun _ => (List.forall_mem_cons.mpr ⟨(fun _ => ⟨mq12046, mk12046, ⟨mc12046, q2281, rfl, Or.inl q2280⟩⟩), (fun _ h => nomatch h)⟩)
theorem mr_47_10 : MOKr 47 (ownS 47) 184 (2, 1, [(36, 12048)]) := fun _ => (List.forall_mem_cons.mpr ⟨(fun _ => ⟨mq12048, mk12048, Or.inl ⟨mc12048, ⟨by decide, (RX7, TX7, 83), rfl, rfl⟩, q2292, Or.inl ⟨qs66, Or.inl ⟨rfl, Or.inl q2290⟩⟩⟩⟩), (fun _ h => nomatch h)⟩)
theorem mr_47_11 : MOKr 47 (ownS 47) 191 (6, 1, [(36, 12051)]) := fun _ => (List.forall_mem_cons.mpr ⟨(fun _ => ⟨mq12051, mk12051, Or.inl ⟨mc12051, ⟨by decide, (RX7, TX7, 83), rfl, rfl⟩, q2306, Or.inl ⟨qs67, Or.inl ⟨rfl, Or.inl q2304⟩⟩⟩⟩), (fun _ h => nomatch h)⟩)
theorem mr_47_12 : MOKr 47 (ownS 47) 197 (2, 1, [(36, 12053)]) := fun _ => (List.forall_mem_cons.mpr ⟨(fun _ => ⟨mq12053, mk12053, Or.inl ⟨mc12053, ⟨by decide, (RX7, TX7, 83), rfl, rfl⟩, q2315, Or.inl ⟨qs68, Or.inl ⟨rfl, Or.inl q2313⟩⟩⟩⟩), (fun _ h => nomatch h)⟩)
theorem mr_47_13 : MOKr 47 (ownS 47) 200 (3, 1, [(36, 12067)]) := fun _ => (List.forall_mem_cons.mpr ⟨(fun _ => ⟨mq12067, mk12067, Or.inl ⟨mc12067, ⟨by decide, (RX7, TX7, 83), rfl, rfl⟩, q2376, Or.inl ⟨qs74, Or.inl ⟨rfl, Or.inl q2374⟩⟩⟩⟩), (fun _ h => nomatch h)⟩)
theorem mr_47_14 : MOKr 47 (ownS 47) 204 (2, 1, [(36, 12066)]) := fun _ => (List.forall_mem_cons.mpr ⟨(fun _ => ⟨mq12066, mk12066, Or.inl ⟨mc12066, ⟨by decide, (RX7, TX7, 83), rfl, rfl⟩, q2372, Or.inl ⟨qs73, Or.inl ⟨rfl, Or.inl q2370⟩⟩⟩⟩), (fun _ h => nomatch h)⟩)
theorem mr_47_15 : MOKr 47 (ownS 47) 207 (2, 1, [(36, 12120)]) := fun _ => (List.forall_mem_cons.mpr ⟨(fun _ => ⟨mq12120, mk12120, Or.inl ⟨mc12120, ⟨by decide, (RX7, TX7, 83), rfl, rfl⟩, q2621, Or.inl ⟨qs112, Or.inl ⟨rfl, Or.inl q2619⟩⟩⟩⟩), (fun _ h => nomatch h)⟩)
theorem mr_47_16 : MOKr 47 (ownS 47) 210 (1, 0, [(0, 12057)]) := fun _ => (List.forall_mem_cons.mpr ⟨(fun _ => ⟨mq12057, mk12057, ⟨mc12057, q2331, rfl, Or.inl q2330⟩⟩), (fun _ h => nomatch h)⟩)
theorem mr_47_17 : MOKr 47 (ownS 47) 213 (2, 1, [(36, 12058)]) := fun _ => (List.forall_mem_cons.mpr ⟨(fun _ => ⟨mq12058, mk12058, Or.inl ⟨mc12058, ⟨by decide, (RX7, TX7, 83), rfl, rfl⟩, q2336, Or.inl ⟨qs70, Or.inl ⟨rfl, Or.inl q2334⟩⟩⟩⟩), (fun _ h => nomatch h)⟩)
theorem mr_47_18 : MOKr 47 (ownS 47) 216 (9, 1, [(36, 12059)]) := fun _ => (List.forall_mem_cons.mpr ⟨(fun _ => ⟨mq12059, mk12059, Or.inl ⟨mc12059, ⟨by decide, (RX7, TX7, 83), rfl, rfl⟩, q2340, Or.inl ⟨qs71, Or.inl ⟨rfl, Or.inl q2338⟩⟩⟩⟩), (fun _ h => nomatch h)⟩)
theorem mr_47_19 : MOKr 47 (ownS 47) 222 (10, 1, [(36, 12056)]) := fun _ => (List.forall_mem_cons.mpr ⟨(fun _ => ⟨mq12056, mk12056, Or.inl ⟨mc12056, ⟨by decide, (RX7, TX7, 83), rfl, rfl⟩, q2328, Or.inl ⟨qs69, Or.inl ⟨rfl, Or.inl q2326⟩⟩⟩⟩), (fun _ h => nomatch h)⟩)
theorem mr_47_20 : MOKr 47 (ownS 47) 239 (2, 1, [(36, 12065)]) := fun _ => (List.forall_mem_cons.mpr ⟨(fun _ => ⟨mq12065, mk12065, Or.inl ⟨mc12065, ⟨by decide, (RX7, TX7, 83), rfl, rfl⟩, q2368, Or.inl ⟨qs72, Or.inl ⟨rfl, Or.inl q2366⟩⟩⟩⟩), (fun _ h => nomatch h)⟩)
theorem mr_47_21 : MOKr 47 (ownS 47) 255 (2, 1, [(36, 12071)]) := fun _ => (List.forall_mem_cons.mpr ⟨(fun _ => ⟨mq12071, mk12071, Or.inl ⟨mc12071, ⟨by decide, (RX7, TX7, 83), rfl, rfl⟩, q2393, Or.inl ⟨qs75, Or.inl ⟨rfl, Or.inl q2391⟩⟩⟩⟩), (fun _ h => nomatch h)⟩)
theorem mr_47_22 : MOKr 47 (ownS 47) 258 (1, 0, [(0, 12072)]) := fun _ => (List.forall_mem_cons.mpr ⟨(fun _ => ⟨mq12072, mk12072, ⟨mc12072, q2396, rfl, Or.inl q2395⟩⟩), (fun _ h => nomatch h)⟩)
theorem mr_47_23 : MOKr 47 (ownS 47) 261 (2, 1, [(36, 12073)]) := fun _ => (List.forall_mem_cons.mpr ⟨(fun _ => ⟨mq12073, mk12073, Or.inl ⟨mc12073, ⟨by decide, (RX7, TX7, 83), rfl, rfl⟩, q2403, Or.inl ⟨qs76, Or.inl ⟨rfl, Or.inl q2401⟩⟩⟩⟩), (fun _ h => nomatch h)⟩)
theorem mr_47_24 : MOKr 47 (ownS 47) 264 (2, 1, [(36, 12075)]) := fun _ => (List.forall_mem_cons.mpr ⟨(fun _ => ⟨mq12075, mk12075, Or.inl ⟨mc12075, ⟨by decide, (RX7, TX7, 83), rfl, rfl⟩, q2411, Or.inl ⟨qs77, Or.inl ⟨rfl, Or.inl q2409⟩⟩⟩⟩), (fun _ h => nomatch h)⟩)
theorem mr_47_25 : MOKr 47 (ownS 47) 274 (1, 1, [(36, 12080)]) := fun _ => (List.forall_mem_cons.mpr ⟨(fun _ => ⟨mq12080, mk12080, Or.inl ⟨mc12080, ⟨by decide, (RX7, TX7, 83), rfl, rfl⟩, q2431, Or.inl ⟨qs79, Or.inl ⟨rfl, Or.inl q2429⟩⟩⟩⟩), (fun _ h => nomatch h)⟩)
theorem mr_47_26 : MOKr 47 (ownS 47) 284 (1, 0, [(0, 12081)]) := fun _ => (List.forall_mem_cons.mpr ⟨(fun _ => ⟨mq12081, mk12081, ⟨mc12081, q2434, rfl, Or.inl q2433⟩⟩), (fun _ h => nomatch h)⟩)
theorem mr_47_27 : MOKr 47 (ownS 47) 287 (1, 0, [(0, 12082)]) := fun _ => (List.forall_mem_cons.mpr ⟨(fun _ => ⟨mq12082, mk12082, ⟨mc12082, q2437, rfl, Or.inl q2436⟩⟩), (fun _ h => nomatch h)⟩)
theorem mr_47_28 : MOKr 47 (ownS 47) 303 (2, 1, [(36, 12086)]) := fun _ => (List.forall_mem_cons.mpr ⟨(fun _ => ⟨mq12086, mk12086, Or.inl ⟨mc12086, ⟨by decide, (RX7, TX7, 83), rfl, rfl⟩, q2467, Or.inl ⟨qs83, Or.inl ⟨rfl, Or.inl q2465⟩⟩⟩⟩), (fun _ h => nomatch h)⟩)
theorem mr_47_29 : MOKr 47 (ownS 47) 313 (1, 0, [(0, 12100)]) := fun _ => (List.forall_mem_cons.mpr ⟨(fun _ => ⟨mq12100, mk12100, ⟨mc12100, q2536, rfl, Or.inl q2535⟩⟩), (fun _ h => nomatch h)⟩)
theorem mr_47_30 : MOKr 47 (ownS 47) 319 (3, 1, [(36, 12098)]) := fun _ => (List.forall_mem_cons.mpr ⟨(fun _ => ⟨mq12098, mk12098, Or.inl ⟨mc12098, ⟨by decide, (RX7, TX7, 83), rfl, rfl⟩, q2529, Or.inl ⟨qs95, Or.inl ⟨rfl, Or.inl q2527⟩⟩⟩⟩), (fun _ h => nomatch h)⟩)
theorem mr_47_31 : MOKr 47 (ownS 47) 330 (2, 1, [(36, 12085)]) := fun _ => (List.forall_mem_cons.mpr ⟨(fun _ => ⟨mq12085, mk12085, Or.inl ⟨mc12085, ⟨by decide, (RX7, TX7, 83), rfl, rfl⟩, q2455, Or.inl ⟨qs82, Or.inl ⟨rfl, Or.inl q2453⟩⟩⟩⟩), (fun _ h => nomatch h)⟩)
theorem mr_47_32 : MOKr 47 (ownS 47) 346 (3, 1, [(36, 12093)]) := fun _ => (List.forall_mem_cons.mpr ⟨(fun _ => ⟨mq12093, mk12093, Or.inl ⟨mc12093, ⟨by decide, (RX7, TX7, 83), rfl, rfl⟩, q2501, Or.inl ⟨qs90, Or.inl ⟨rfl, Or.inl q2499⟩⟩⟩⟩), (fun _ h => nomatch h)⟩)
theorem mr_47_33 : MOKr 47 (ownS 47) 349 (2, 1, [(36, 12094)]) := fun _ => (List.forall_mem_cons.mpr ⟨(fun _ => ⟨mq12094, mk12094, Or.inl ⟨mc12094, ⟨by decide, (RX7, TX7, 83), rfl, rfl⟩, q2505, Or.inl ⟨qs91, Or.inl ⟨rfl, Or.inl q2503⟩⟩⟩⟩), (fun _ h => nomatch h)⟩)
theorem mr_47_34 : MOKr 47 (ownS 47) 352 (2, 1, [(36, 12095)]) := fun _ => (List.forall_mem_cons.mpr ⟨(fun _ => ⟨mq12095, mk12095, Or.inl ⟨mc12095, ⟨by decide, (RX7, TX7, 83), rfl, rfl⟩, q2509, Or.inl ⟨qs92, Or.inl ⟨rfl, Or.inl q2507⟩⟩⟩⟩), (fun _ h => nomatch h)⟩)
theorem mr_47_35 : MOKr 47 (ownS 47) 355 (1, 1, [(36, 12097)]) := fun _ => (List.forall_mem_cons.mpr ⟨(fun _ => ⟨mq12097, mk12097, Or.inl ⟨mc12097, ⟨by decide, (RX7, TX7, 83), rfl, rfl⟩, q2517, Or.inl ⟨qs94, Or.inl ⟨rfl, Or.inl q2515⟩⟩⟩⟩), (fun _ h => nomatch h)⟩)
theorem mr_47_36 : MOKr 47 (ownS 47) 364 (2, 1, [(36, 12099)]) := fun _ => (List.forall_mem_cons.mpr ⟨(fun _ => ⟨mq12099, mk12099, Or.inl ⟨mc12099, ⟨by decide, (RX7, TX7, 83), rfl, rfl⟩, q2533, Or.inl ⟨qs96, Or.inl ⟨rfl, Or.inl q2531⟩⟩⟩⟩), (fun _ h => nomatch h)⟩)
theorem mr_47_37 : MOKr 47 (ownS 47) 369 (1, 1, [(36, 12096)]) := fun _ => (List.forall_mem_cons.mpr ⟨(fun _ => ⟨mq12096, mk12096, Or.inl ⟨mc12096, ⟨by decide, (RX7, TX7, 83), rfl, rfl⟩, q2513, Or.inl ⟨qs93, Or.inl ⟨rfl, Or.inl q2511⟩⟩⟩⟩), (fun _ h => nomatch h)⟩)
theorem mr_47_38 : MOKr 47 (ownS 47) 372 (1, 1, [(36, 12102)]) := fun _ => (List.forall_mem_cons.mpr ⟨(fun _ => ⟨mq12102, mk12102, Or.inl ⟨mc12102, ⟨by decide, (RX7, TX7, 83), rfl, rfl⟩, q2544, Or.inl ⟨qs98, Or.inl ⟨rfl, Or.inl q2542⟩⟩⟩⟩), (fun _ h => nomatch h)⟩)
theorem mr_47_39 : MOKr 47 (ownS 47) 375 (1, 1, [(36, 12103)]) := fun _ => (List.forall_mem_cons.mpr ⟨(fun _ => ⟨mq12103, mk12103, Or.inl ⟨mc12103, ⟨by decide, (RX7, TX7, 83), rfl, rfl⟩, q2548, Or.inl ⟨qs99, Or.inl ⟨rfl, Or.inl q2546⟩⟩⟩⟩), (fun _ h => nomatch h)⟩)
theorem mr_47_40 : MOKr 47 (ownS 47) 383 (1, 1, [(36, 12092)]) := fun _ => (List.forall_mem_cons.mpr ⟨(fun _ => ⟨mq12092, mk12092, Or.inl ⟨mc12092, ⟨by decide, (RX7, TX7, 83), rfl, rfl⟩, q2496, Or.inl ⟨qs89, Or.inl ⟨rfl, Or.inl q2494⟩⟩⟩⟩), (fun _ h => nomatch h)⟩)
theorem mr_47_41 : MOKr 47 (ownS 47) 386 (2, 1, [(36, 12101)]) := fun _ => (List.forall_mem_cons.mpr ⟨(fun _ => ⟨mq12101, mk12101, Or.inl ⟨mc12101, ⟨by decide, (RX7, TX7, 83), rfl, rfl⟩, q2540, Or.inl ⟨qs97, Or.inl ⟨rfl, Or.inl q2538⟩⟩⟩⟩), (fun _ h => nomatch h)⟩)
theorem mr_47_42 : MOKr 47 (ownS 47) 390 (1, 1, [(36, 12104)]) := fun _ => (List.forall_mem_cons.mpr ⟨(fun _ => ⟨mq12104, mk12104, Or.inl ⟨mc12104, ⟨by decide, (RX7, TX7, 83), rfl, rfl⟩, q2554, Or.inl ⟨qs100, Or.inl ⟨rfl, Or.inl q2552⟩⟩⟩⟩), (fun _ h => nomatch h)⟩)
theorem mr_47_43 : MOKr 47 (ownS 47) 415 (2, 1, [(36, 12091)]) := fun _ => (List.forall_mem_cons.mpr ⟨(fun _ => ⟨mq12091, mk12091, Or.inl ⟨mc12091, ⟨by decide, (RX7, TX7, 83), rfl, rfl⟩, q2492, Or.inl ⟨qs88, Or.inl ⟨rfl, Or.inl q2490⟩⟩⟩⟩), (fun _ h => nomatch h)⟩)
theorem mr_47_44 : MOKr 47 (ownS 47) 418 (1, 1, [(36, 12084)]) := fun _ => (List.forall_mem_cons.mpr ⟨(fun _ => ⟨mq12084, mk12084, Or.inl ⟨mc12084, ⟨by decide, (RX7, TX7, 83), rfl, rfl⟩, q2450, Or.inl ⟨qs81, Or.inl ⟨rfl, Or.inl q2448⟩⟩⟩⟩), (fun _ h => nomatch h)⟩)
theorem mr_47_45 : MOKr 47 (ownS 47) 424 (3, 1, [(36, 12087)]) := fun _ => (List.forall_mem_cons.mpr ⟨(fun _ => ⟨mq12087, mk12087, Or.inl ⟨mc12087, ⟨by decide, (RX7, TX7, 83), rfl, rfl⟩, q2471, Or.inl ⟨qs84, Or.inl ⟨rfl, Or.inl q2469⟩⟩⟩⟩), (fun _ h => nomatch h)⟩)
theorem mr_47_46 : MOKr 47 (ownS 47) 432 (1, 1, [(36, 12088)]) := fun _ => (List.forall_mem_cons.mpr ⟨(fun _ => ⟨mq12088, mk12088, Or.inl ⟨mc12088, ⟨by decide, (RX7, TX7, 83), rfl, rfl⟩, q2478, Or.inl ⟨qs85, Or.inl ⟨rfl, Or.inl q2476⟩⟩⟩⟩), (fun _ h => nomatch h)⟩)
theorem mr_47_47 : MOKr 47 (ownS 47) 435 (2, 1, [(36, 12089)]) := fun _ => (List.forall_mem_cons.mpr ⟨(fun _ => ⟨mq12089, mk12089, Or.inl ⟨mc12089, ⟨by decide, (RX7, TX7, 83), rfl, rfl⟩, q2484, Or.inl ⟨qs86, Or.inl ⟨rfl, Or.inl q2482⟩⟩⟩⟩), (fun _ h => nomatch h)⟩)
theorem mr_47_48 : MOKr 47 (ownS 47) 437 (4, 1, [(36, 12090)]) := fun _ => (List.forall_mem_cons.mpr ⟨(fun _ => ⟨mq12090, mk12090, Or.inl ⟨mc12090, ⟨by decide, (RX7, TX7, 83), rfl, rfl⟩, q2488, Or.inl ⟨qs87, Or.inl ⟨rfl, Or.inl q2486⟩⟩⟩⟩), (fun _ h => nomatch h)⟩)
theorem mr_47_49 : MOKr 47 (ownS 47) 447 (1, 1, [(36, 12079)]) := fun _ => (List.forall_mem_cons.mpr ⟨(fun _ => ⟨mq12079, mk12079, Or.inl ⟨mc12079, ⟨by decide, (RX7, TX7, 83), rfl, rfl⟩, q2427, Or.inl ⟨qs78, Or.inl ⟨rfl, Or.inl q2425⟩⟩⟩⟩), (fun _ h => nomatch h)⟩)
theorem mr_47_50 : MOKr 47 (ownS 47) 450 (1, 1, [(36, 12083)]) := fun _ => (List.forall_mem_cons.mpr ⟨(fun _ => ⟨mq12083, mk12083, Or.inl ⟨mc12083, ⟨by decide, (RX7, TX7, 83), rfl, rfl⟩, q2446, Or.inl ⟨qs80, Or.inl ⟨rfl, Or.inl q2444⟩⟩⟩⟩), (fun _ h => nomatch h)⟩)
theorem mr_47_51 : MOKr 47 (ownS 47) 453 (1, 0, [(0, 12105)]) := fun _ => (List.forall_mem_cons.mpr ⟨(fun _ => ⟨mq12105, mk12105, ⟨mc12105, q2562, rfl, Or.inl q2561⟩⟩), (fun _ h => nomatch h)⟩)
theorem mr_47_52 : MOKr 47 (ownS 47) 459 (1, 1, [(36, 12108)]) := fun _ => (List.forall_mem_cons.mpr ⟨(fun _ => ⟨mq12108, mk12108, Or.inl ⟨mc12108, ⟨by decide, (RX7, TX7, 83), rfl, rfl⟩, q2574, Or.inl ⟨qs102, Or.inl ⟨rfl, Or.inl q2572⟩⟩⟩⟩), (fun _ h => nomatch h)⟩)
theorem mr_47_53 : MOKr 47 (ownS 47) 462 (2, 0, [(0, 12109)]) := fun _ => (List.forall_mem_cons.mpr ⟨(fun _ => ⟨mq12109, mk12109, ⟨mc12109, q2577, rfl, Or.inl q2576⟩⟩), (fun _ h => nomatch h)⟩)
theorem mr_47_54 : MOKr 47 (ownS 47) 465 (1, 1, [(36, 12110)]) := fun _ => (List.forall_mem_cons.mpr ⟨(fun _ => ⟨mq12110, mk12110, Or.inl ⟨mc12110, ⟨by decide, (RX7, TX7, 83), rfl, rfl⟩, q2581, Or.inl ⟨qs103, Or.inl ⟨rfl, Or.inl q2579⟩⟩⟩⟩), (fun _ h => nomatch h)⟩)
theorem mr_47_55 : MOKr 47 (ownS 47) 468 (2, 1, [(36, 12107)]) := fun _ => (List.forall_mem_cons.mpr ⟨(fun _ => ⟨mq12107, mk12107, Or.inl ⟨mc12107, ⟨by decide, (RX7, TX7, 83), rfl, rfl⟩, q2570, Or.inl ⟨qs101, Or.inl ⟨rfl, Or.inl q2568⟩⟩⟩⟩), (fun _ h => nomatch h)⟩)
theorem mr_47_56 : MOKr 47 (ownS 47) 471 (2, 1, [(36, 12121)]) := fun _ => (List.forall_mem_cons.mpr ⟨(fun _ => ⟨mq12121, mk12121, Or.inl ⟨mc12121, ⟨by decide, (RX7, TX7, 83), rfl, rfl⟩, q2625, Or.inl ⟨qs113, Or.inl ⟨rfl, Or.inl q2623⟩⟩⟩⟩), (fun _ h => nomatch h)⟩)
theorem mr_47_57 : MOKr 47 (ownS 47) 481 (4, 1, [(36, 12124)]) := fun _ => (List.forall_mem_cons.mpr ⟨(fun _ => ⟨mq12124, mk12124, Or.inl ⟨mc12124, ⟨by decide, (RX7, TX7, 83), rfl, rfl⟩, q2639, Or.inl ⟨qs116, Or.inl ⟨rfl, Or.inl q2637⟩⟩⟩⟩), (fun _ h => nomatch h)⟩)
theorem mr_47_58 : MOKr 47 (ownS 47) 491 (3, 1, [(36, 12119)]) := fun _ => (List.forall_mem_cons.mpr ⟨(fun _ => ⟨mq12119, mk12119, Or.inl ⟨mc12119, ⟨by decide, (RX7, TX7, 83), rfl, rfl⟩, q2617, Or.inl ⟨qs111, Or.inl ⟨rfl, Or.inl q2615⟩⟩⟩⟩), (fun _ h => nomatch h)⟩)
theorem mr_47_59 : MOKr 47 (ownS 47) 494 (3, 1, [(36, 12122)]) := fun _ => (List.forall_mem_cons.mpr ⟨(fun _ => ⟨mq12122, mk12122, Or.inl ⟨mc12122, ⟨by decide, (RX7, TX7, 83), rfl, rfl⟩, q2629, Or.inl ⟨qs114, Or.inl ⟨rfl, Or.inl q2627⟩⟩⟩⟩), (fun _ h => nomatch h)⟩)
theorem mr_47_60 : MOKr 47 (ownS 47) 503 (4, 1, [(36, 12123)]) := fun _ => (List.forall_mem_cons.mpr ⟨(fun _ => ⟨mq12123, mk12123, Or.inl ⟨mc12123, ⟨by decide, (RX7, TX7, 83), rfl, rfl⟩, q2633, Or.inl ⟨qs115, Or.inl ⟨rfl, Or.inl q2631⟩⟩⟩⟩), (fun _ h => nomatch h)⟩)
theorem mr_47_61 : MOKr 47 (ownS 47) 509 (6, 1, [(36, 12118)]) := fun _ => (List.forall_mem_cons.mpr ⟨(fun _ => ⟨mq12118, mk12118, Or.inl ⟨mc12118, ⟨by decide, (RX7, TX7, 83), rfl, rfl⟩, q2613, Or.inl ⟨qs110, Or.inl ⟨rfl, Or.inl q2611⟩⟩⟩⟩), (fun _ h => nomatch h)⟩)
theorem mr_47_62 : MOKr 47 (ownS 47) 513 (1, 0, [(0, 12126)]) := fun _ => (List.forall_mem_cons.mpr ⟨(fun _ => ⟨mq12126, mk12126, ⟨mc12126, q2646, rfl, Or.inl q2645⟩⟩), (fun _ h => nomatch h)⟩)
theorem mr_47_63 : MOKr 47 (ownS 47) 526 (2, 1, [(36, 12115)]) := fun _ => (List.forall_mem_cons.mpr ⟨(fun _ => ⟨mq12115, mk12115, Or.inl ⟨mc12115, ⟨by decide, (RX7, TX7, 83), rfl, rfl⟩, q2601, Or.inl ⟨qs107, Or.inl ⟨rfl, Or.inl q2599⟩⟩⟩⟩), (fun _ h => nomatch h)⟩)
theorem mr_47_64 : MOKr 47 (ownS 47) 529 (3, 1, [(36, 12117)]) := fun _ => (List.forall_mem_cons.mpr ⟨(fun _ => ⟨mq12117, mk12117, Or.inl ⟨mc12117, ⟨by decide, (RX7, TX7, 83), rfl, rfl⟩, q2609, Or.inl ⟨qs109, Or.inl ⟨rfl, Or.inl q2607⟩⟩⟩⟩), (fun _ h => nomatch h)⟩)
theorem mr_47_65 : MOKr 47 (ownS 47) 536 (3, 1, [(36, 12125)]) := fun _ => (List.forall_mem_cons.mpr ⟨(fun _ => ⟨mq12125, mk12125, Or.inl ⟨mc12125, ⟨by decide, (RX7, TX7, 83), rfl, rfl⟩, q2643, Or.inl ⟨qs117, Or.inl ⟨rfl, Or.inl q2641⟩⟩⟩⟩), (fun _ h => nomatch h)⟩)
theorem mr_47_66 : MOKr 47 (ownS 47) 540 (3, 1, [(36, 12127)]) := fun _ => (List.forall_mem_cons.mpr ⟨(fun _ => ⟨mq12127, mk12127, Or.inl ⟨mc12127, ⟨by decide, (RX7, TX7, 83), rfl, rfl⟩, q2651, Or.inl ⟨qs118, Or.inl ⟨rfl, Or.inl q2649⟩⟩⟩⟩), (fun _ h => nomatch h)⟩)
theorem mr_47_67 : MOKr 47 (ownS 47) 549 (2, 1, [(36, 12114)]) := fun _ => (List.forall_mem_cons.mpr ⟨(fun _ => ⟨mq12114, mk12114, Or.inl ⟨mc12114, ⟨by decide, (RX7, TX7, 83), rfl, rfl⟩, q2597, Or.inl ⟨qs106, Or.inl ⟨rfl, Or.inl q2595⟩⟩⟩⟩), (fun _ h => nomatch h)⟩)
theorem mr_47_68 : MOKr 47 (ownS 47) 552 (3, 1, [(36, 12116)]) := fun _ => (List.forall_mem_cons.mpr ⟨(fun _ => ⟨mq12116, mk12116, Or.inl ⟨mc12116, ⟨by decide, (RX7, TX7, 83), rfl, rfl⟩, q2605, Or.inl ⟨qs108, Or.inl ⟨rfl, Or.inl q2603⟩⟩⟩⟩), (fun _ h => nomatch h)⟩)
theorem mr_47_69 : MOKr 47 (ownS 47) 555 (2, 1, [(36, 12130)]) := fun _ => (List.forall_mem_cons.mpr ⟨(fun _ => ⟨mq12130, mk12130, Or.inl ⟨mc12130, ⟨by decide, (RX7, TX7, 83), rfl, rfl⟩, q2663, Or.inl ⟨qs121, Or.inl ⟨rfl, Or.inl q2661⟩⟩⟩⟩), (fun _ h => nomatch h)⟩)
theorem mr_47_70 : MOKr 47 (ownS 47) 558 (2, 1, [(36, 12132)]) := fun _ => (List.forall_mem_cons.mpr ⟨(fun _ => ⟨mq12132, mk12132, Or.inl ⟨mc12132, ⟨by decide, (RX7, TX7, 83), rfl, rfl⟩, q2671, Or.inl ⟨qs123, Or.inl ⟨rfl, Or.inl q2669⟩⟩⟩⟩), (fun _ h => nomatch h)⟩)
theorem mr_47_71 : MOKr 47 (ownS 47) 564 (3, 1, [(36, 12131)]) := fun _ => (List.forall_mem_cons.mpr ⟨(fun _ => ⟨mq12131, mk12131, Or.inl ⟨mc12131, ⟨by decide, (RX7, TX7, 83), rfl, rfl⟩, q2667, Or.inl ⟨qs122, Or.inl ⟨rfl, Or.inl q2665⟩⟩⟩⟩), (fun _ h => nomatch h)⟩)
theorem mr_47_72 : MOKr 47 (ownS 47) 567 (3, 1, [(36, 12129)]) := fun _ => (List.forall_mem_cons.mpr ⟨(fun _ => ⟨mq12129, mk12129, Or.inl ⟨mc12129, ⟨by decide, (RX7, TX7, 83), rfl, rfl⟩, q2659, Or.inl ⟨qs120, Or.inl ⟨rfl, Or.inl q2657⟩⟩⟩⟩), (fun _ h => nomatch h)⟩)
theorem mr_47_73 : MOKr 47 (ownS 47) 570 (3, 1, [(36, 12128)]) := fun _ => (List.forall_mem_cons.mpr ⟨(fun _ => ⟨mq12128, mk12128, Or.inl ⟨mc12128, ⟨by decide, (RX7, TX7, 83), rfl, rfl⟩, q2655, Or.inl ⟨qs119, Or.inl ⟨rfl, Or.inl q2653⟩⟩⟩⟩), (fun _ h => nomatch h)⟩)
theorem mr_47_74 : MOKr 47 (ownS 47) 573 (3, 1, [(36, 12133)]) := fun _ => (List.forall_mem_cons.mpr ⟨(fun _ => ⟨mq12133, mk12133, Or.inl ⟨mc12133, ⟨by decide, (RX7, TX7, 83), rfl, rfl⟩, q2675, Or.inl ⟨qs124, Or.inl ⟨rfl, Or.inl q2673⟩⟩⟩⟩), (fun _ h => nomatch h)⟩)
theorem mr_47_75 : MOKr 47 (ownS 47) 576 (3, 1, [(36, 12111)]) := fun _ => (List.forall_mem_cons.mpr ⟨(fun _ => ⟨mq12111, mk12111, Or.inl ⟨mc12111, ⟨by decide, (RX7, TX7, 83), rfl, rfl⟩, q2585, Or.inl ⟨qs104, Or.inl ⟨rfl, Or.inl q2583⟩⟩⟩⟩), (fun _ h => nomatch h)⟩)
theorem mr_47_76 : MOKr 47 (ownS 47) 579 (3, 1, [(36, 12112)]) := fun _ => (List.forall_mem_cons.mpr ⟨(fun _ => ⟨mq12112, mk12112, Or.inl ⟨mc12112, ⟨by decide, (RX7, TX7, 83), rfl, rfl⟩, q2589, Or.inl ⟨qs105, Or.inl ⟨rfl, Or.inl q2587⟩⟩⟩⟩), (fun _ h => nomatch h)⟩)
theorem mr_47_77 : MOKr 47 (ownS 47) 582 (2, 1, [(36, 12139)]) := fun _ => (List.forall_mem_cons.mpr ⟨(fun _ => ⟨mq12139, mk12139, Or.inl ⟨mc12139, ⟨by decide, (RX7, TX7, 83), rfl, rfl⟩, q2699, Or.inl ⟨qs125, Or.inl ⟨rfl, Or.inl q2697⟩⟩⟩⟩), (fun _ h => nomatch h)⟩)
theorem mr_47_78 : MOKr 47 (ownS 47) 594 (3, 1, [(36, 12143)]) := fun _ => (List.forall_mem_cons.mpr ⟨(fun _ => ⟨mq12143, mk12143, Or.inl ⟨mc12143, ⟨by decide, (RX7, TX7, 83), rfl, rfl⟩, q2715, Or.inl ⟨qs128, Or.inl ⟨rfl, Or.inl q2713⟩⟩⟩⟩), (fun _ h => nomatch h)⟩)
theorem mr_47_79 : MOKr 47 (ownS 47) 597 (3, 1, [(36, 12144)]) := fun _ => (List.forall_mem_cons.mpr ⟨(fun _ => ⟨mq12144, mk12144, Or.inl ⟨mc12144, ⟨by decide, (RX7, TX7, 83), rfl, rfl⟩, q2719, Or.inl ⟨qs129, Or.inl ⟨rfl, Or.inl q2717⟩⟩⟩⟩), (fun _ h => nomatch h)⟩)
theorem mr_47_80 : MOKr 47 (ownS 47) 609 (2, 0, [(0, 12145)]) := fun _ => (List.forall_mem_cons.mpr ⟨(fun _ => ⟨mq12145, mk12145, ⟨mc12145, q2722, rfl, Or.inl q2721⟩⟩), (fun _ h => nomatch h)⟩)
theorem mr_47_81 : MOKr 47 (ownS 47) 612 (1, 1, [(36, 12141)]) := fun _ => (List.forall_mem_cons.mpr ⟨(fun _ => ⟨mq12141, mk12141, Or.inl ⟨mc12141, ⟨by decide, (RX7, TX7, 83), rfl, rfl⟩, q2707, Or.inl ⟨qs126, Or.inl ⟨rfl, Or.inl q2705⟩⟩⟩⟩), (fun _ h => nomatch h)⟩)
theorem mr_47_82 : MOKr 47 (ownS 47) 615 (3, 1, [(36, 12142)]) := fun _ => (List.forall_mem_cons.mpr ⟨(fun _ => ⟨mq12142, mk12142, Or.inl ⟨mc12142, ⟨by decide, (RX7, TX7, 83), rfl, rfl⟩, q2711, Or.inl ⟨qs127, Or.inl ⟨rfl, Or.inl q2709⟩⟩⟩⟩), (fun _ h => nomatch h)⟩)
theorem mr_47_83 : MOKr 47 (ownS 47) 618 (2, 1, [(36, 12146)]) := fun _ => (List.forall_mem_cons.mpr ⟨(fun _ => ⟨mq12146, mk12146, Or.inl ⟨mc12146, ⟨by decide, (RX7, TX7, 83), rfl, rfl⟩, q2726, Or.inl ⟨qs130, Or.inl ⟨rfl, Or.inl q2724⟩⟩⟩⟩), (fun _ h => nomatch h)⟩)
theorem mr_47_84 : MOKr 47 (ownS 47) 624 (1, 0, [(0, 12154)]) := fun _ => (List.forall_mem_cons.mpr ⟨(fun _ => ⟨mq12154, mk12154, ⟨mc12154, q2757, rfl, Or.inl q2756⟩⟩), (fun _ h => nomatch h)⟩)
theorem mr_47_85 : MOKr 47 (ownS 47) 627 (2, 1, [(36, 12155)]) := fun _ => (List.forall_mem_cons.mpr ⟨(fun _ => ⟨mq12155, mk12155, Or.inl ⟨mc12155, ⟨by decide, (RX7, TX7, 83), rfl, rfl⟩, q2761, Or.inl ⟨qs133, Or.inl ⟨rfl, Or.inl q2759⟩⟩⟩⟩), (fun _ h => nomatch h)⟩)
theorem mr_47_86 : MOKr 47 (ownS 47) 630 (1, 1, [(36, 12153)]) := fun _ => (List.forall_mem_cons.mpr ⟨(fun _ => ⟨mq12153, mk12153, Or.inl ⟨mc12153, ⟨by decide, (RX7, TX7, 83), rfl, rfl⟩, q2754, Or.inl ⟨qs132, Or.inl ⟨rfl, Or.inl q2752⟩⟩⟩⟩), (fun _ h => nomatch h)⟩)
theorem mr_47_87 : MOKr 47 (ownS 47) 633 (5, 1, [(36, 12156)]) := fun _ => (List.forall_mem_cons.mpr ⟨(fun _ => ⟨mq12156, mk12156, Or.inl ⟨mc12156, ⟨by decide, (RX7, TX7, 83), rfl, rfl⟩, q2765, Or.inl ⟨qs134, Or.inl ⟨rfl, Or.inl q2763⟩⟩⟩⟩), (fun _ h => nomatch h)⟩)
theorem mr_47_88 : MOKr 47 (ownS 47) 636 (1, 1, [(36, 12152)]) := fun _ => (List.forall_mem_cons.mpr ⟨(fun _ => ⟨mq12152, mk12152, Or.inl ⟨mc12152, ⟨by decide, (RX7, TX7, 83), rfl, rfl⟩, q2750, Or.inl ⟨qs131, Or.inl ⟨rfl, Or.inl q2748⟩⟩⟩⟩), (fun _ h => nomatch h)⟩)
theorem mr_47_89 : MOKr 47 (ownS 47) 642 (1, 1, [(36, 12157)]) := fun _ => (List.forall_mem_cons.mpr ⟨(fun _ => ⟨mq12157, mk12157, Or.inl ⟨mc12157, ⟨by decide, (RX7, TX7, 83), rfl, rfl⟩, q2769, Or.inl ⟨qs135, Or.inl ⟨rfl, Or.inl q2767⟩⟩⟩⟩), (fun _ h => nomatch h)⟩)
theorem mr_47_90 : MOKr 47 (ownS 47) 645 (1, 1, [(36, 12158)]) := fun _ => (List.forall_mem_cons.mpr ⟨(fun _ => ⟨mq12158, mk12158, Or.inl ⟨mc12158, ⟨by decide, (RX7, TX7, 83), rfl, rfl⟩, q2773, Or.inl ⟨qs136, Or.inl ⟨rfl, Or.inl q2771⟩⟩⟩⟩), (fun _ h => nomatch h)⟩)
theorem mr_47_91 : MOKr 47 (ownS 47) 663 (4, 1, [(36, 12165)]) := fun _ => (List.forall_mem_cons.mpr ⟨(fun _ => ⟨mq12165, mk12165, Or.inl ⟨mc12165, ⟨by decide, (RX7, TX7, 83), rfl, rfl⟩, q2803, Or.inl ⟨qs138, Or.inl ⟨rfl, Or.inl q2801⟩⟩⟩⟩), (fun _ h => nomatch h)⟩)
theorem mr_47_92 : MOKr 47 (ownS 47) 670 (1, 0, [(0, 12163)]) := fun _ => (List.forall_mem_cons.mpr ⟨(fun _ => ⟨mq12163, mk12163, ⟨mc12163, q2792, rfl, Or.inl q2791⟩⟩), (fun _ h => nomatch h)⟩)
theorem mr_47_93 : MOKr 47 (ownS 47) 674 (3, 1, [(36, 12164)]) := fun _ => (List.forall_mem_cons.mpr ⟨(fun _ => ⟨mq12164, mk12164, Or.inl ⟨mc12164, ⟨by decide, (RX7, TX7, 83), rfl, rfl⟩, q2799, Or.inl ⟨qs137, Or.inl ⟨rfl, Or.inl q2797⟩⟩⟩⟩), (fun _ h => nomatch h)⟩)
theorem mr_47_94 : MOKr 47 (ownS 47) 687 (5, 1, [(36, 12170)]) := fun _ => (List.forall_mem_cons.mpr ⟨(fun _ => ⟨mq12170, mk12170, Or.inl ⟨mc12170, ⟨by decide, (RX7, TX7, 83), rfl, rfl⟩, q2825, Or.inl ⟨qs139, Or.inl ⟨rfl, Or.inl q2823⟩⟩⟩⟩), (fun _ h => nomatch h)⟩)
theorem mr_47_95 : MOKr 47 (ownS 47) 699 (4, 1, [(36, 12174)]) := fun _ => (List.forall_mem_cons.mpr ⟨(fun _ => ⟨mq12174, mk12174, Or.inl ⟨mc12174, ⟨by decide, (RX7, TX7, 83), rfl, rfl⟩, q2840, Or.inl ⟨qs141, Or.inl ⟨rfl, Or.inl q2838⟩⟩⟩⟩), (fun _ h => nomatch h)⟩)
theorem mr_47_96 : MOKr 47 (ownS 47) 703 (2, 0, [(0, 12172)]) := fun _ => (List.forall_mem_cons.mpr ⟨(fun _ => ⟨mq12172, mk12172, ⟨mc12172, q2832, rfl, Or.inl q2831⟩⟩), (fun _ h => nomatch h)⟩)
theorem mr_47_97 : MOKr 47 (ownS 47) 706 (3, 1, [(36, 12173)]) := fun _ => (List.forall_mem_cons.mpr ⟨(fun _ => ⟨mq12173, mk12173, Or.inl ⟨mc12173, ⟨by decide, (RX7, TX7, 83), rfl, rfl⟩, q2836, Or.inl ⟨qs140, Or.inl ⟨rfl, Or.inl q2834⟩⟩⟩⟩), (fun _ h => nomatch h)⟩)
theorem mr_47_98 : MOKr 47 (ownS 47) 709 (2, 0, [(0, 12175)]) := fun _ => (List.forall_mem_cons.mpr ⟨(fun _ => ⟨mq12175, mk12175, ⟨mc12175, q2843, rfl, Or.inl q2842⟩⟩), (fun _ h => nomatch h)⟩)
theorem mr_47 : ∀ q ∈ ([(1, (1, 2, [(0, 20000)])), (122, (3, 0, [(0, 12034)])), (130, (2, 1, [(36, 12035)])), (134, (2, 0, [(0, 12040)])), (144, (3, 0, [(0, 12039)])), (148, (4, 0, [(0, 12038)])), (152, (4, 0, [(0, 12041)])), (156, (1, 0, [(0, 12042)])), (169, (3, 1, [(36, 12044)])), (175, (1, 0, [(0, 12046)])), (184, (2, 1, [(36, 12048)])), (191, (6, 1, [(36, 12051)])), (197, (2, 1, [(36, 12053)])), (200, (3, 1, [(36, 12067)])), (204, (2, 1, [(36, 12066)])), (207, (2, 1, [(36, 12120)])), (210, (1, 0, [(0, 12057)])), (213, (2, 1, [(36, 12058)])), (216, (9, 1, [(36, 12059)])), (222, (10, 1, [(36, 12056)])), (239, (2, 1, [(36, 12065)])), (255, (2, 1, [(36, 12071)])), (258, (1, 0, [(0, 12072)])), (261, (2, 1, [(36, 12073)])), (264, (2, 1, [(36, 12075)])), (274, (1, 1, [(36, 12080)])), (284, (1, 0, [(0, 12081)])), (287, (1, 0, [(0, 12082)])), (303, (2, 1, [(36, 12086)])), (313, (1, 0, [(0, 12100)])), (319, (3, 1, [(36, 12098)])), (330, (2, 1, [(36, 12085)])), (346, (3, 1, [(36, 12093)])), (349, (2, 1, [(36, 12094)])), (352, (2, 1, [(36, 12095)])), (355, (1, 1, [(36, 12097)])), (364, (2, 1, [(36, 12099)])), (369, (1, 1, [(36, 12096)])), (372, (1, 1, [(36, 12102)])), (375, (1, 1, [(36, 12103)])), (383, (1, 1, [(36, 12092)])), (386, (2, 1, [(36, 12101)])), (390, (1, 1, [(36, 12104)])), (415, (2, 1, [(36, 12091)])), (418, (1, 1, [(36, 12084)])), (424, (3, 1, [(36, 12087)])), (432, (1, 1, [(36, 12088)])), (435, (2, 1, [(36, 12089)])), (437, (4, 1, [(36, 12090)])), (447, (1, 1, [(36, 12079)])), (450, (1, 1, [(36, 12083)])), (453, (1, 0, [(0, 12105)])), (459, (1, 1, [(36, 12108)])), (462, (2, 0, [(0, 12109)])), (465, (1, 1, [(36, 12110)])), (468, (2, 1, [(36, 12107)])), (471, (2, 1, [(36, 12121)])), (481, (4, 1, [(36, 12124)])), (491, (3, 1, [(36, 12119)])), (494, (3, 1, [(36, 12122)])), (503, (4, 1, [(36, 12123)])), (509, (6, 1, [(36, 12118)])), (513, (1, 0, [(0, 12126)])), (526, (2, 1, [(36, 12115)])), (529, (3, 1, [(36, 12117)])), (536, (3, 1, [(36, 12125)])), (540, (3, 1, [(36, 12127)])), (549, (2, 1, [(36, 12114)])), (552, (3, 1, [(36, 12116)])), (555, (2, 1, [(36, 12130)])), (558, (2, 1, [(36, 12132)])), (564, (3, 1, [(36, 12131)])), (567, (3, 1, [(36, 12129)])), (570, (3, 1, [(36, 12128)])), (573, (3, 1, [(36, 12133)])), (576, (3, 1, [(36, 12111)])), (579, (3, 1, [(36, 12112)])), (582, (2, 1, [(36, 12139)])), (594, (3, 1, [(36, 12143)])), (597, (3, 1, [(36, 12144)])), (609, (2, 0, [(0, 12145)])), (612, (1, 1, [(36, 12141)])), (615, (3, 1, [(36, 12142)])), (618, (2, 1, [(36, 12146)])), (624, (1, 0, [(0, 12154)])), (627, (2, 1, [(36, 12155)])), (630, (1, 1, [(36, 12153)])), (633, (5, 1, [(36, 12156)])), (636, (1, 1, [(36, 12152)])), (642, (1, 1, [(36, 12157)])), (645, (1, 1, [(36, 12158)])), (663, (4, 1, [(36, 12165)])), (670, (1, 0, [(0, 12163)])), (674, (3, 1, [(36, 12164)])), (687, (5, 1, [(36, 12170)])), (699, (4, 1, [(36, 12174)])), (703, (2, 0, [(0, 12172)])), (706, (3, 1, [(36, 12173)])), (709, (2, 0, [(0, 12175)]))] : List (Nat × (Nat × Nat × List (Nat × Nat)))), MOKr 47 (ownS 47) q.1 q.2 := (List.forall_mem_cons.mpr ⟨mr_47_0, (List.forall_mem_cons.mpr ⟨mr_47_1, (List.forall_mem_cons.mpr ⟨mr_47_2, (List.forall_mem_cons.mpr ⟨mr_47_3, (List.forall_mem_cons.mpr ⟨mr_47_4, (List.forall_mem_cons.mpr ⟨mr_47_5, (List.forall_mem_cons.mpr ⟨mr_47_6, (List.forall_mem_cons.mpr ⟨mr_47_7, (List.forall_mem_cons.mpr ⟨mr_47_8, (List.forall_mem_cons.mpr ⟨mr_47_9, (List.forall_mem_cons.mpr ⟨mr_47_10, (List.forall_mem_cons.mpr ⟨mr_47_11, (List.forall_mem_cons.mpr ⟨mr_47_12, (List.forall_mem_cons.mpr ⟨mr_47_13, (List.forall_mem_cons.mpr ⟨mr_47_14, (List.forall_mem_cons.mpr ⟨mr_47_15, (List.forall_mem_cons.mpr ⟨mr_47_16, (List.forall_mem_cons.mpr ⟨mr_47_17, (List.forall_mem_cons.mpr ⟨mr_47_18, (List.forall_mem_cons.mpr ⟨mr_47_19, (List.forall_mem_cons.mpr ⟨mr_47_20, (List.forall_mem_cons.mpr ⟨mr_47_21, (List.forall_mem_cons.mpr ⟨mr_47_22, (List.forall_mem_cons.mpr ⟨mr_47_23, (List.forall_mem_cons.mpr ⟨mr_47_24, (List.forall_mem_cons.mpr ⟨mr_47_25, (List.forall_mem_cons.mpr ⟨mr_47_26, (List.forall_mem_cons.mpr ⟨mr_47_27, (List.forall_mem_cons.mpr ⟨mr_47_28, (List.forall_mem_cons.mpr ⟨mr_47_29, (List.forall_mem_cons.mpr ⟨mr_47_30, (List.forall_mem_cons.mpr ⟨mr_47_31, (List.forall_mem_cons.mpr ⟨mr_47_32, (List.forall_mem_cons.mpr ⟨mr_47_33, (List.forall_mem_cons.mpr ⟨mr_47_34, (List.forall_mem_cons.mpr ⟨mr_47_35, (List.forall_mem_cons.mpr ⟨mr_47_36, (List.forall_mem_cons.mpr ⟨mr_47_37, (List.forall_mem_cons.mpr ⟨mr_47_38, (List.forall_mem_cons.mpr ⟨mr_47_39, (List.forall_mem_cons.mpr ⟨mr_47_40, (List.forall_mem_cons.mpr ⟨mr_47_41, (List.forall_mem_cons.mpr ⟨mr_47_42, (List.forall_mem_cons.mpr ⟨mr_47_43, (List.forall_mem_cons.mpr ⟨mr_47_44, (List.forall_mem_cons.mpr ⟨mr_47_45, (List.forall_mem_cons.mpr ⟨mr_47_46, (List.forall_mem_cons.mpr ⟨mr_47_47, (List.forall_mem_cons.mpr ⟨mr_47_48, (List.forall_mem_cons.mpr ⟨mr_47_49, (List.forall_mem_cons.mpr ⟨mr_47_50, (List.forall_mem_cons.mpr ⟨mr_47_51, (List.forall_mem_cons.mpr ⟨mr_47_52, (List.forall_mem_cons.mpr ⟨mr_47_53, (List.forall_mem_cons.mpr ⟨mr_47_54, (List.forall_mem_cons.mpr ⟨mr_47_55, (List.forall_mem_cons.mpr ⟨mr_47_56, (List.forall_mem_cons.mpr ⟨mr_47_57, (List.forall_mem_cons.mpr ⟨mr_47_58, (List.forall_mem_cons.mpr ⟨mr_47_59, (List.forall_mem_cons.mpr ⟨mr_47_60, (List.forall_mem_cons.mpr ⟨mr_47_61, (List.forall_mem_cons.mpr ⟨mr_47_62, (List.forall_mem_cons.mpr ⟨mr_47_63, (List.forall_mem_cons.mpr ⟨mr_47_64, (List.forall_mem_cons.mpr ⟨mr_47_65, (List.forall_mem_cons.mpr ⟨mr_47_66, (List.forall_mem_cons.mpr ⟨mr_47_67, (List.forall_mem_cons.mpr ⟨mr_47_68, (List.forall_mem_cons.mpr ⟨mr_47_69, (List.forall_mem_cons.mpr ⟨mr_47_70, (List.forall_mem_cons.mpr ⟨mr_47_71, (List.forall_mem_cons.mpr ⟨mr_47_72, (List.forall_mem_cons.mpr ⟨mr_47_73, (List.forall_mem_cons.mpr ⟨mr_47_74, (List.forall_mem_cons.mpr ⟨mr_47_75, (List.forall_mem_cons.mpr ⟨mr_47_76, (List.forall_mem_cons.mpr ⟨mr_47_77, (List.forall_mem_cons.mpr ⟨mr_47_78, (List.forall_mem_cons.mpr ⟨mr_47_79, (List.forall_mem_cons.mpr ⟨mr_47_80, (List.forall_mem_cons.mpr ⟨mr_47_81, (List.forall_mem_cons.mpr ⟨mr_47_82, (List.forall_mem_cons.mpr ⟨mr_47_83, (List.forall_mem_cons.mpr ⟨mr_47_84, (List.forall_mem_cons.mpr ⟨mr_47_85, (List.forall_mem_cons.mpr ⟨mr_47_86, (List.forall_mem_cons.mpr ⟨mr_47_87, (List.forall_mem_cons.mpr ⟨mr_47_88, (List.forall_mem_cons.mpr ⟨mr_47_89, (List.forall_mem_cons.mpr ⟨mr_47_90, (List.forall_mem_cons.mpr ⟨mr_47_91, (List.forall_mem_cons.mpr ⟨mr_47_92, (List.forall_mem_cons.mpr ⟨mr_47_93, (List.forall_mem_cons.mpr ⟨mr_47_94, (List.forall_mem_cons.mpr ⟨mr_47_95, (List.forall_mem_cons.mpr ⟨mr_47_96, (List.forall_mem_cons.mpr ⟨mr_47_97, (List.forall_mem_cons.mpr ⟨mr_47_98, (fun _ h => nomatch h)⟩)⟩)⟩)⟩)⟩)⟩)⟩)⟩)⟩)⟩)⟩)⟩)⟩)⟩)⟩)⟩)⟩)⟩)⟩)⟩)⟩)⟩)⟩)⟩)⟩)⟩)⟩)⟩)⟩)⟩)⟩)⟩)⟩)⟩)⟩)⟩)⟩)⟩)⟩)⟩)⟩)⟩)⟩)⟩)⟩)⟩)⟩)⟩)⟩)⟩)⟩)⟩)⟩)⟩)⟩)⟩)⟩)⟩)⟩)⟩)⟩)⟩)⟩)⟩)⟩)⟩)⟩)⟩)⟩)⟩)⟩)⟩)⟩)⟩)⟩)⟩)⟩)⟩)⟩)⟩)⟩)⟩)⟩)⟩)⟩)⟩)⟩)⟩)⟩)⟩)⟩)⟩)⟩)⟩)⟩)⟩)⟩)⟩)⟩)
theorem mr_48_0 : MOKr 48 (ownS 48) 1 (1, 2, [(0, 20000)]) := fun _ => (List.forall_mem_cons.mpr ⟨(fun h => absurd h (by decide)), (fun _ h => nomatch h)⟩)
theorem mr_48 : ∀ q ∈ ([(1, (1, 2, [(0, 20000)]))] : List (Nat × (Nat × Nat × List (Nat × Nat)))), MOKr 48 (ownS 48) q.1 q.2 := (List.forall_mem_cons.mpr ⟨mr_48_0, (fun _ h => nomatch h)⟩)
theorem mr_49_0 : MOKr 49 (ownS 49) 3 (7, 2, [(0, 12288)]) := fun _ => (List.forall_mem_cons.mpr ⟨(fun _ => ⟨mq12288, mk12288, ⟨mc12288, rfl, q912, rfl, rfl, Or.inl q911⟩⟩), (fun _ h => nomatch h)⟩)
theorem mr_49 : ∀ q ∈ ([(3, (7, 2, [(0, 12288)]))] : List (Nat × (Nat × Nat × List (Nat × Nat)))), MOKr 49 (ownS 49) q.1 q.2 := (List.forall_mem_cons.mpr ⟨mr_49_0, (fun _ h => nomatch h)⟩)
theorem lkM_ok {o i : Nat} {r : _} (h : am_tb lkM o i = some r) : MOKr o (ownS o) i r := rows_ok (P := fun o i r => MOKr o (ownS o) i r) (T := lkM) ⟨mr_0, mr_1, mr_2, mr_3, mr_4, mr_5, mr_6, mr_7, mr_8, mr_9, mr_10, mr_11, mr_12, mr_13, mr_14, mr_15, mr_16, mr_17, mr_18, mr_19, mr_20, mr_21, mr_22, mr_23, mr_24, mr_25, mr_26, mr_27, mr_28, mr_29, mr_30, mr_31, mr_32, mr_33, mr_34, mr_35, mr_36, mr_37, mr_38, mr_39, mr_40, mr_41, mr_42, mr_43, mr_44, mr_45, mr_46, mr_47, mr_48, mr_49, trivial⟩ h
