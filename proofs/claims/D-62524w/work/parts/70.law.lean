set_option maxRecDepth 100000
theorem q146 : (Jvm.Cond.classLink "LassoFinderLaw" (8 : Nat) "LassoFinder") ∈ lw_all := lw_g (lw_at lw_m1 46 rfl) rfl
theorem q147 : (Jvm.Cond.instantiable "LassoFinder" (12 : Nat)) ∈ lw_all := lw_g (lw_at lw_m1 47 rfl) rfl
theorem q148 : (Jvm.Cond.methodLink "LassoFinderLaw" (43 : Nat) ({ cls := "LassoFinder", name := "<init>", desc := "()V" } : Jvm.MethodName)) ∈ lw_all := lw_g (lw_at lw_m1 48 rfl) rfl
theorem q149 : (Jvm.Cond.instanceMethod ({ cls := "LassoFinder", name := "<init>", desc := "()V" } : Jvm.MethodName)) ∈ lw_all := lw_g (lw_at lw_m1 49 rfl) rfl
theorem q878 : (Jvm.Cond.methodLink "LassoFinderLaw" (49 : Nat) ({ cls := "LassoFinder", name := "write", desc := "(J)Z" } : Jvm.MethodName)) ∈ lw_all := lw_g (lw_at lw_m4 58 rfl) rfl
theorem q879 : (Jvm.Cond.instanceMethod ({ cls := "LassoFinder", name := "write", desc := "(J)Z" } : Jvm.MethodName)) ∈ lw_all := lw_g (lw_at lw_m4 59 rfl) rfl
theorem q880 : (Jvm.Cond.selects "LassoFinder" ({ cls := "LassoFinder", name := "write", desc := "(J)Z" } : Jvm.MethodName) ({ cls := "LassoFinder", name := "write", desc := "(J)Z" } : Jvm.MethodName)) ∈ lw_all := lw_g (lw_at lw_m4 60 rfl) rfl
theorem q905 : (Jvm.Cond.methodLink "LassoFinderLaw" (66 : Nat) ({ cls := "LassoFinder", name := "place", desc := "()I" } : Jvm.MethodName)) ∈ lw_all := lw_g (lw_at lw_m4 85 rfl) rfl
theorem q906 : (Jvm.Cond.instanceMethod ({ cls := "LassoFinder", name := "place", desc := "()I" } : Jvm.MethodName)) ∈ lw_all := lw_g (lw_at lw_m4 86 rfl) rfl
theorem q907 : (Jvm.Cond.selects "LassoFinder" ({ cls := "LassoFinder", name := "place", desc := "()I" } : Jvm.MethodName) ({ cls := "LassoFinder", name := "place", desc := "()I" } : Jvm.MethodName)) ∈ lw_all := lw_g (lw_at lw_m4 87 rfl) rfl
theorem q909 : (Jvm.Cond.methodLink "LassoFinderLaw" (73 : Nat) ({ cls := "LassoFinder", name := "stem", desc := "()I" } : Jvm.MethodName)) ∈ lw_all := lw_g (lw_at lw_m4 89 rfl) rfl
theorem q910 : (Jvm.Cond.instanceMethod ({ cls := "LassoFinder", name := "stem", desc := "()I" } : Jvm.MethodName)) ∈ lw_all := lw_g (lw_at lw_m4 90 rfl) rfl
theorem q911 : (Jvm.Cond.selects "LassoFinder" ({ cls := "LassoFinder", name := "stem", desc := "()I" } : Jvm.MethodName) ({ cls := "LassoFinder", name := "stem", desc := "()I" } : Jvm.MethodName)) ∈ lw_all := lw_g (lw_at lw_m4 91 rfl) rfl
theorem q913 : (Jvm.Cond.methodLink "LassoFinderLaw" (77 : Nat) ({ cls := "LassoFinder", name := "cycle", desc := "()I" } : Jvm.MethodName)) ∈ lw_all := lw_g (lw_at lw_m4 93 rfl) rfl
theorem q914 : (Jvm.Cond.instanceMethod ({ cls := "LassoFinder", name := "cycle", desc := "()I" } : Jvm.MethodName)) ∈ lw_all := lw_g (lw_at lw_m4 94 rfl) rfl
theorem q915 : (Jvm.Cond.selects "LassoFinder" ({ cls := "LassoFinder", name := "cycle", desc := "()I" } : Jvm.MethodName) ({ cls := "LassoFinder", name := "cycle", desc := "()I" } : Jvm.MethodName)) ∈ lw_all := lw_g (lw_at lw_m4 95 rfl) rfl
theorem q917 : (Jvm.Cond.methodLink "LassoFinderLaw" (89 : Nat) ({ cls := "LassoFinder", name := "steps", desc := "()I" } : Jvm.MethodName)) ∈ lw_all := lw_g (lw_at lw_m4 97 rfl) rfl
theorem q925 : (Jvm.Cond.methodLink "LassoFinderLaw" (97 : Nat) ({ cls := "LassoFinder", name := "value", desc := "(I)I" } : Jvm.MethodName)) ∈ lw_all := lw_g (lw_at lw_m4 105 rfl) rfl
theorem q926 : (Jvm.Cond.instanceMethod ({ cls := "LassoFinder", name := "value", desc := "(I)I" } : Jvm.MethodName)) ∈ lw_all := lw_g (lw_at lw_m4 106 rfl) rfl
theorem q927 : (Jvm.Cond.selects "LassoFinder" ({ cls := "LassoFinder", name := "value", desc := "(I)I" } : Jvm.MethodName) ({ cls := "LassoFinder", name := "value", desc := "(I)I" } : Jvm.MethodName)) ∈ lw_all := lw_g (lw_at lw_m4 107 rfl) rfl
theorem q937 : (Jvm.Cond.methodLink "LassoFinderLaw" (101 : Nat) ({ cls := "LassoFinder", name := "message", desc := "(II)I" } : Jvm.MethodName)) ∈ lw_all := lw_g (lw_at lw_m4 117 rfl) rfl
theorem q938 : (Jvm.Cond.instanceMethod ({ cls := "LassoFinder", name := "message", desc := "(II)I" } : Jvm.MethodName)) ∈ lw_all := lw_g (lw_at lw_m4 118 rfl) rfl
theorem q939 : (Jvm.Cond.selects "LassoFinder" ({ cls := "LassoFinder", name := "message", desc := "(II)I" } : Jvm.MethodName) ({ cls := "LassoFinder", name := "message", desc := "(II)I" } : Jvm.MethodName)) ∈ lw_all := lw_g (lw_at lw_m4 119 rfl) rfl
theorem q941 : (Jvm.Cond.methodLink "LassoFinderLaw" (105 : Nat) ({ cls := "LassoFinder", name := "point", desc := "(I)I" } : Jvm.MethodName)) ∈ lw_all := lw_g (lw_at lw_m4 121 rfl) rfl
theorem q942 : (Jvm.Cond.instanceMethod ({ cls := "LassoFinder", name := "point", desc := "(I)I" } : Jvm.MethodName)) ∈ lw_all := lw_g (lw_at lw_m4 122 rfl) rfl
theorem q943 : (Jvm.Cond.selects "LassoFinder" ({ cls := "LassoFinder", name := "point", desc := "(I)I" } : Jvm.MethodName) ({ cls := "LassoFinder", name := "point", desc := "(I)I" } : Jvm.MethodName)) ∈ lw_all := lw_g (lw_at lw_m4 123 rfl) rfl
theorem q945 : (Jvm.Cond.methodLink "LassoFinderLaw" (109 : Nat) ({ cls := "LassoFinder", name := "holder", desc := "()I" } : Jvm.MethodName)) ∈ lw_all := lw_g (lw_at lw_m4 125 rfl) rfl
theorem q946 : (Jvm.Cond.instanceMethod ({ cls := "LassoFinder", name := "holder", desc := "()I" } : Jvm.MethodName)) ∈ lw_all := lw_g (lw_at lw_m4 126 rfl) rfl
theorem q947 : (Jvm.Cond.selects "LassoFinder" ({ cls := "LassoFinder", name := "holder", desc := "()I" } : Jvm.MethodName) ({ cls := "LassoFinder", name := "holder", desc := "()I" } : Jvm.MethodName)) ∈ lw_all := lw_g (lw_at lw_m4 127 rfl) rfl
theorem q949 : (Jvm.Cond.methodLink "LassoFinderLaw" (116 : Nat) ({ cls := "LassoFinder", name := "count", desc := "(I)I" } : Jvm.MethodName)) ∈ lw_all := lw_g (lw_at lw_m4 129 rfl) rfl
theorem q950 : (Jvm.Cond.instanceMethod ({ cls := "LassoFinder", name := "count", desc := "(I)I" } : Jvm.MethodName)) ∈ lw_all := lw_g (lw_at lw_m4 130 rfl) rfl
theorem q951 : (Jvm.Cond.selects "LassoFinder" ({ cls := "LassoFinder", name := "count", desc := "(I)I" } : Jvm.MethodName) ({ cls := "LassoFinder", name := "count", desc := "(I)I" } : Jvm.MethodName)) ∈ lw_all := lw_g (lw_at lw_m4 131 rfl) rfl
theorem q953 : (Jvm.Cond.methodLink "LassoFinderLaw" (54 : Nat) ({ cls := "LassoFinderLaw", name := "model", desc := "(LLassoFinder;[J)I" } : Jvm.MethodName)) ∈ lw_all := lw_g (lw_at lw_m4 133 rfl) rfl
theorem q954 : (Jvm.Cond.static ({ cls := "LassoFinderLaw", name := "model", desc := "(LLassoFinder;[J)I" } : Jvm.MethodName)) ∈ lw_all := lw_g (lw_at lw_m4 134 rfl) rfl
theorem q1525 : (Jvm.Cond.methodLink "LassoFinderLaw" (63 : Nat) ({ cls := "LassoFinderLaw", name := "formula", desc := "(LLassoFinder;[J)I" } : Jvm.MethodName)) ∈ lw_all := lw_g (lw_at lw_m6 225 rfl) rfl
theorem q1526 : (Jvm.Cond.static ({ cls := "LassoFinderLaw", name := "formula", desc := "(LLassoFinder;[J)I" } : Jvm.MethodName)) ∈ lw_all := lw_g (lw_at lw_m6 226 rfl) rfl
theorem q1673 : (Jvm.Cond.methodLink "LassoFinderLaw" (70 : Nat) ({ cls := "LassoFinderLaw", name := "verify", desc := "(LLassoFinder;[J)I" } : Jvm.MethodName)) ∈ lw_all := lw_g (lw_at lw_m7 133 rfl) rfl
theorem q1674 : (Jvm.Cond.static ({ cls := "LassoFinderLaw", name := "verify", desc := "(LLassoFinder;[J)I" } : Jvm.MethodName)) ∈ lw_all := lw_g (lw_at lw_m7 134 rfl) rfl
theorem q1804 : (Jvm.Cond.methodLink "LassoFinderLaw" (81 : Nat) ({ cls := "LassoFinderLaw", name := "lasso", desc := "(LLassoFinder;II[J)I" } : Jvm.MethodName)) ∈ lw_all := lw_g (lw_at lw_m8 24 rfl) rfl
theorem q1805 : (Jvm.Cond.static ({ cls := "LassoFinderLaw", name := "lasso", desc := "(LLassoFinder;II[J)I" } : Jvm.MethodName)) ∈ lw_all := lw_g (lw_at lw_m8 25 rfl) rfl
theorem q1836 : (Jvm.Cond.methodLink "LassoFinderLaw" (85 : Nat) ({ cls := "LassoFinderLaw", name := "walk", desc := "(LLassoFinder;)I" } : Jvm.MethodName)) ∈ lw_all := lw_g (lw_at lw_m8 56 rfl) rfl
theorem q1837 : (Jvm.Cond.static ({ cls := "LassoFinderLaw", name := "walk", desc := "(LLassoFinder;)I" } : Jvm.MethodName)) ∈ lw_all := lw_g (lw_at lw_m8 57 rfl) rfl
theorem q1843 : (Jvm.Cond.methodLink "LassoFinderLaw" (93 : Nat) ({ cls := "LassoFinderLaw", name := "go", desc := "(LLassoFinder;I[J)I" } : Jvm.MethodName)) ∈ lw_all := lw_g (lw_at lw_m8 63 rfl) rfl
theorem q1844 : (Jvm.Cond.static ({ cls := "LassoFinderLaw", name := "go", desc := "(LLassoFinder;I[J)I" } : Jvm.MethodName)) ∈ lw_all := lw_g (lw_at lw_m8 64 rfl) rfl
theorem q1853 : (Jvm.Cond.methodLink "LassoFinderLaw" (113 : Nat) ({ cls := "LassoFinderLaw", name := "truth", desc := "(LLassoFinder;I[J)I" } : Jvm.MethodName)) ∈ lw_all := lw_g (lw_at lw_m8 73 rfl) rfl
theorem q1854 : (Jvm.Cond.static ({ cls := "LassoFinderLaw", name := "truth", desc := "(LLassoFinder;I[J)I" } : Jvm.MethodName)) ∈ lw_all := lw_g (lw_at lw_m8 74 rfl) rfl
theorem q1876 : (Jvm.Cond.classLink "LassoFinderLaw" (44 : Nat) "LassoFinderModel") ∈ lw_all := lw_g (lw_at lw_m8 96 rfl) rfl
theorem q1877 : (Jvm.Cond.instantiable "LassoFinderModel" (84 : Nat)) ∈ lw_all := lw_g (lw_at lw_m8 97 rfl) rfl
theorem q1878 : (Jvm.Cond.methodLink "LassoFinderLaw" (46 : Nat) ({ cls := "LassoFinderModel", name := "<init>", desc := "()V" } : Jvm.MethodName)) ∈ lw_all := lw_g (lw_at lw_m8 98 rfl) rfl
theorem q1879 : (Jvm.Cond.instanceMethod ({ cls := "LassoFinderModel", name := "<init>", desc := "()V" } : Jvm.MethodName)) ∈ lw_all := lw_g (lw_at lw_m8 99 rfl) rfl
theorem q2135 : (Jvm.Cond.methodLink "LassoFinderLaw" (60 : Nat) ({ cls := "LassoFinderModel", name := "thrown", desc := "()I" } : Jvm.MethodName)) ∈ lw_all := lw_g (lw_at lw_m9 115 rfl) rfl
theorem q2136 : (Jvm.Cond.instanceMethod ({ cls := "LassoFinderModel", name := "thrown", desc := "()I" } : Jvm.MethodName)) ∈ lw_all := lw_g (lw_at lw_m9 116 rfl) rfl
theorem q2137 : (Jvm.Cond.selects "LassoFinderModel" ({ cls := "LassoFinderModel", name := "thrown", desc := "()I" } : Jvm.MethodName) ({ cls := "LassoFinderModel", name := "thrown", desc := "()I" } : Jvm.MethodName)) ∈ lw_all := lw_g (lw_at lw_m9 117 rfl) rfl
theorem q2139 : (Jvm.Cond.methodLink "LassoFinderLaw" (53 : Nat) ({ cls := "LassoFinderModel", name := "write", desc := "(J)Z" } : Jvm.MethodName)) ∈ lw_all := lw_g (lw_at lw_m9 119 rfl) rfl
theorem q2140 : (Jvm.Cond.instanceMethod ({ cls := "LassoFinderModel", name := "write", desc := "(J)Z" } : Jvm.MethodName)) ∈ lw_all := lw_g (lw_at lw_m9 120 rfl) rfl
theorem q2141 : (Jvm.Cond.selects "LassoFinderModel" ({ cls := "LassoFinderModel", name := "write", desc := "(J)Z" } : Jvm.MethodName) ({ cls := "LassoFinderModel", name := "write", desc := "(J)Z" } : Jvm.MethodName)) ∈ lw_all := lw_g (lw_at lw_m9 121 rfl) rfl
theorem q2146 : (Jvm.Cond.methodLink "LassoFinderLaw" (59 : Nat) ({ cls := "LassoFinderModel", name := "model", desc := "()I" } : Jvm.MethodName)) ∈ lw_all := lw_g (lw_at lw_m9 126 rfl) rfl
theorem q2147 : (Jvm.Cond.instanceMethod ({ cls := "LassoFinderModel", name := "model", desc := "()I" } : Jvm.MethodName)) ∈ lw_all := lw_g (lw_at lw_m9 127 rfl) rfl
theorem q2148 : (Jvm.Cond.selects "LassoFinderModel" ({ cls := "LassoFinderModel", name := "model", desc := "()I" } : Jvm.MethodName) ({ cls := "LassoFinderModel", name := "model", desc := "()I" } : Jvm.MethodName)) ∈ lw_all := lw_g (lw_at lw_m9 128 rfl) rfl
theorem q2288 : (Jvm.Cond.methodLink "LassoFinderLaw" (69 : Nat) ({ cls := "LassoFinderModel", name := "place", desc := "()I" } : Jvm.MethodName)) ∈ lw_all := lw_g (lw_at lw_m10 28 rfl) rfl
theorem q2289 : (Jvm.Cond.instanceMethod ({ cls := "LassoFinderModel", name := "place", desc := "()I" } : Jvm.MethodName)) ∈ lw_all := lw_g (lw_at lw_m10 29 rfl) rfl
theorem q2290 : (Jvm.Cond.selects "LassoFinderModel" ({ cls := "LassoFinderModel", name := "place", desc := "()I" } : Jvm.MethodName) ({ cls := "LassoFinderModel", name := "place", desc := "()I" } : Jvm.MethodName)) ∈ lw_all := lw_g (lw_at lw_m10 30 rfl) rfl
theorem q2292 : (Jvm.Cond.methodLink "LassoFinderLaw" (65 : Nat) ({ cls := "LassoFinderModel", name := "formula", desc := "()I" } : Jvm.MethodName)) ∈ lw_all := lw_g (lw_at lw_m10 32 rfl) rfl
theorem q2293 : (Jvm.Cond.instanceMethod ({ cls := "LassoFinderModel", name := "formula", desc := "()I" } : Jvm.MethodName)) ∈ lw_all := lw_g (lw_at lw_m10 33 rfl) rfl
theorem q2294 : (Jvm.Cond.selects "LassoFinderModel" ({ cls := "LassoFinderModel", name := "formula", desc := "()I" } : Jvm.MethodName) ({ cls := "LassoFinderModel", name := "formula", desc := "()I" } : Jvm.MethodName)) ∈ lw_all := lw_g (lw_at lw_m10 34 rfl) rfl
theorem q2331 : (Jvm.Cond.methodLink "LassoFinderLaw" (72 : Nat) ({ cls := "LassoFinderModel", name := "verify", desc := "()Z" } : Jvm.MethodName)) ∈ lw_all := lw_g (lw_at lw_m10 71 rfl) rfl
theorem q2332 : (Jvm.Cond.instanceMethod ({ cls := "LassoFinderModel", name := "verify", desc := "()Z" } : Jvm.MethodName)) ∈ lw_all := lw_g (lw_at lw_m10 72 rfl) rfl
theorem q2333 : (Jvm.Cond.selects "LassoFinderModel" ({ cls := "LassoFinderModel", name := "verify", desc := "()Z" } : Jvm.MethodName) ({ cls := "LassoFinderModel", name := "verify", desc := "()Z" } : Jvm.MethodName)) ∈ lw_all := lw_g (lw_at lw_m10 73 rfl) rfl
theorem q2393 : (Jvm.Cond.methodLink "LassoFinderLaw" (76 : Nat) ({ cls := "LassoFinderModel", name := "stem", desc := "()I" } : Jvm.MethodName)) ∈ lw_all := lw_g (lw_at lw_m10 133 rfl) rfl
theorem q2394 : (Jvm.Cond.instanceMethod ({ cls := "LassoFinderModel", name := "stem", desc := "()I" } : Jvm.MethodName)) ∈ lw_all := lw_g (lw_at lw_m10 134 rfl) rfl
theorem q2395 : (Jvm.Cond.selects "LassoFinderModel" ({ cls := "LassoFinderModel", name := "stem", desc := "()I" } : Jvm.MethodName) ({ cls := "LassoFinderModel", name := "stem", desc := "()I" } : Jvm.MethodName)) ∈ lw_all := lw_g (lw_at lw_m10 135 rfl) rfl
theorem q2397 : (Jvm.Cond.methodLink "LassoFinderLaw" (80 : Nat) ({ cls := "LassoFinderModel", name := "cycle", desc := "()I" } : Jvm.MethodName)) ∈ lw_all := lw_g (lw_at lw_m10 137 rfl) rfl
theorem q2398 : (Jvm.Cond.instanceMethod ({ cls := "LassoFinderModel", name := "cycle", desc := "()I" } : Jvm.MethodName)) ∈ lw_all := lw_g (lw_at lw_m10 138 rfl) rfl
theorem q2399 : (Jvm.Cond.selects "LassoFinderModel" ({ cls := "LassoFinderModel", name := "cycle", desc := "()I" } : Jvm.MethodName) ({ cls := "LassoFinderModel", name := "cycle", desc := "()I" } : Jvm.MethodName)) ∈ lw_all := lw_g (lw_at lw_m10 139 rfl) rfl
theorem q2401 : (Jvm.Cond.methodLink "LassoFinderLaw" (84 : Nat) ({ cls := "LassoFinderModel", name := "lasso", desc := "(II)I" } : Jvm.MethodName)) ∈ lw_all := lw_g (lw_at lw_m10 141 rfl) rfl
theorem q2402 : (Jvm.Cond.instanceMethod ({ cls := "LassoFinderModel", name := "lasso", desc := "(II)I" } : Jvm.MethodName)) ∈ lw_all := lw_g (lw_at lw_m10 142 rfl) rfl
theorem q2403 : (Jvm.Cond.selects "LassoFinderModel" ({ cls := "LassoFinderModel", name := "lasso", desc := "(II)I" } : Jvm.MethodName) ({ cls := "LassoFinderModel", name := "lasso", desc := "(II)I" } : Jvm.MethodName)) ∈ lw_all := lw_g (lw_at lw_m10 143 rfl) rfl
theorem q2405 : (Jvm.Cond.methodLink "LassoFinderLaw" (88 : Nat) ({ cls := "LassoFinderModel", name := "walk", desc := "()V" } : Jvm.MethodName)) ∈ lw_all := lw_g (lw_at lw_m10 145 rfl) rfl
theorem q2406 : (Jvm.Cond.instanceMethod ({ cls := "LassoFinderModel", name := "walk", desc := "()V" } : Jvm.MethodName)) ∈ lw_all := lw_g (lw_at lw_m10 146 rfl) rfl
theorem q2407 : (Jvm.Cond.selects "LassoFinderModel" ({ cls := "LassoFinderModel", name := "walk", desc := "()V" } : Jvm.MethodName) ({ cls := "LassoFinderModel", name := "walk", desc := "()V" } : Jvm.MethodName)) ∈ lw_all := lw_g (lw_at lw_m10 147 rfl) rfl
theorem q2409 : (Jvm.Cond.methodLink "LassoFinderLaw" (92 : Nat) ({ cls := "LassoFinderModel", name := "steps", desc := "()I" } : Jvm.MethodName)) ∈ lw_all := lw_g (lw_at lw_m10 149 rfl) rfl
theorem q2410 : (Jvm.Cond.instanceMethod ({ cls := "LassoFinderModel", name := "steps", desc := "()I" } : Jvm.MethodName)) ∈ lw_all := lw_g (lw_at lw_m10 150 rfl) rfl
theorem q2411 : (Jvm.Cond.selects "LassoFinderModel" ({ cls := "LassoFinderModel", name := "steps", desc := "()I" } : Jvm.MethodName) ({ cls := "LassoFinderModel", name := "steps", desc := "()I" } : Jvm.MethodName)) ∈ lw_all := lw_g (lw_at lw_m10 151 rfl) rfl
theorem q2413 : (Jvm.Cond.methodLink "LassoFinderLaw" (96 : Nat) ({ cls := "LassoFinderModel", name := "go", desc := "(I)I" } : Jvm.MethodName)) ∈ lw_all := lw_g (lw_at lw_m10 153 rfl) rfl
theorem q2414 : (Jvm.Cond.instanceMethod ({ cls := "LassoFinderModel", name := "go", desc := "(I)I" } : Jvm.MethodName)) ∈ lw_all := lw_g (lw_at lw_m10 154 rfl) rfl
theorem q2415 : (Jvm.Cond.selects "LassoFinderModel" ({ cls := "LassoFinderModel", name := "go", desc := "(I)I" } : Jvm.MethodName) ({ cls := "LassoFinderModel", name := "go", desc := "(I)I" } : Jvm.MethodName)) ∈ lw_all := lw_g (lw_at lw_m10 155 rfl) rfl
theorem q2417 : (Jvm.Cond.methodLink "LassoFinderLaw" (100 : Nat) ({ cls := "LassoFinderModel", name := "value", desc := "(I)I" } : Jvm.MethodName)) ∈ lw_all := lw_g (lw_at lw_m10 157 rfl) rfl
theorem q2418 : (Jvm.Cond.instanceMethod ({ cls := "LassoFinderModel", name := "value", desc := "(I)I" } : Jvm.MethodName)) ∈ lw_all := lw_g (lw_at lw_m10 158 rfl) rfl
theorem q2419 : (Jvm.Cond.selects "LassoFinderModel" ({ cls := "LassoFinderModel", name := "value", desc := "(I)I" } : Jvm.MethodName) ({ cls := "LassoFinderModel", name := "value", desc := "(I)I" } : Jvm.MethodName)) ∈ lw_all := lw_g (lw_at lw_m10 159 rfl) rfl
theorem q2425 : (Jvm.Cond.methodLink "LassoFinderLaw" (104 : Nat) ({ cls := "LassoFinderModel", name := "message", desc := "(II)I" } : Jvm.MethodName)) ∈ lw_all := lw_g (lw_at lw_m10 165 rfl) rfl
theorem q2426 : (Jvm.Cond.instanceMethod ({ cls := "LassoFinderModel", name := "message", desc := "(II)I" } : Jvm.MethodName)) ∈ lw_all := lw_g (lw_at lw_m10 166 rfl) rfl
theorem q2427 : (Jvm.Cond.selects "LassoFinderModel" ({ cls := "LassoFinderModel", name := "message", desc := "(II)I" } : Jvm.MethodName) ({ cls := "LassoFinderModel", name := "message", desc := "(II)I" } : Jvm.MethodName)) ∈ lw_all := lw_g (lw_at lw_m10 167 rfl) rfl
theorem q2429 : (Jvm.Cond.methodLink "LassoFinderLaw" (108 : Nat) ({ cls := "LassoFinderModel", name := "point", desc := "(I)I" } : Jvm.MethodName)) ∈ lw_all := lw_g (lw_at lw_m10 169 rfl) rfl
theorem q2430 : (Jvm.Cond.instanceMethod ({ cls := "LassoFinderModel", name := "point", desc := "(I)I" } : Jvm.MethodName)) ∈ lw_all := lw_g (lw_at lw_m10 170 rfl) rfl
theorem q2431 : (Jvm.Cond.selects "LassoFinderModel" ({ cls := "LassoFinderModel", name := "point", desc := "(I)I" } : Jvm.MethodName) ({ cls := "LassoFinderModel", name := "point", desc := "(I)I" } : Jvm.MethodName)) ∈ lw_all := lw_g (lw_at lw_m10 171 rfl) rfl
theorem q2433 : (Jvm.Cond.methodLink "LassoFinderLaw" (112 : Nat) ({ cls := "LassoFinderModel", name := "holder", desc := "()I" } : Jvm.MethodName)) ∈ lw_all := lw_g (lw_at lw_m10 173 rfl) rfl
theorem q2434 : (Jvm.Cond.instanceMethod ({ cls := "LassoFinderModel", name := "holder", desc := "()I" } : Jvm.MethodName)) ∈ lw_all := lw_g (lw_at lw_m10 174 rfl) rfl
theorem q2435 : (Jvm.Cond.selects "LassoFinderModel" ({ cls := "LassoFinderModel", name := "holder", desc := "()I" } : Jvm.MethodName) ({ cls := "LassoFinderModel", name := "holder", desc := "()I" } : Jvm.MethodName)) ∈ lw_all := lw_g (lw_at lw_m10 175 rfl) rfl
theorem q2437 : (Jvm.Cond.methodLink "LassoFinderLaw" (115 : Nat) ({ cls := "LassoFinderModel", name := "truth", desc := "(I)Z" } : Jvm.MethodName)) ∈ lw_all := lw_g (lw_at lw_m10 177 rfl) rfl
theorem q2438 : (Jvm.Cond.instanceMethod ({ cls := "LassoFinderModel", name := "truth", desc := "(I)Z" } : Jvm.MethodName)) ∈ lw_all := lw_g (lw_at lw_m10 178 rfl) rfl
theorem q2439 : (Jvm.Cond.selects "LassoFinderModel" ({ cls := "LassoFinderModel", name := "truth", desc := "(I)Z" } : Jvm.MethodName) ({ cls := "LassoFinderModel", name := "truth", desc := "(I)Z" } : Jvm.MethodName)) ∈ lw_all := lw_g (lw_at lw_m10 179 rfl) rfl
theorem q2441 : (Jvm.Cond.methodLink "LassoFinderLaw" (119 : Nat) ({ cls := "LassoFinderModel", name := "count", desc := "(I)I" } : Jvm.MethodName)) ∈ lw_all := lw_g (lw_at lw_m10 181 rfl) rfl
theorem q2442 : (Jvm.Cond.instanceMethod ({ cls := "LassoFinderModel", name := "count", desc := "(I)I" } : Jvm.MethodName)) ∈ lw_all := lw_g (lw_at lw_m10 182 rfl) rfl
theorem q2443 : (Jvm.Cond.selects "LassoFinderModel" ({ cls := "LassoFinderModel", name := "count", desc := "(I)I" } : Jvm.MethodName) ({ cls := "LassoFinderModel", name := "count", desc := "(I)I" } : Jvm.MethodName)) ∈ lw_all := lw_g (lw_at lw_m10 183 rfl) rfl
theorem q2445 : (Jvm.Cond.constantLong "LassoFinderLaw" (47 : Nat) (4294967295 : Int64)) ∈ lw_all := lw_g (lw_at lw_m10 185 rfl) rfl
abbrev cL_law : ByteArray := code
theorem dL_law_0 : decode cL_law 0 = .ok (.new 8, 3) := by decide +kernel
theorem dL_law_3 : decode cL_law 3 = .ok (.dup, 1) := by decide +kernel
theorem dL_law_4 : decode cL_law 4 = .ok (.invokespecial 43, 3) := by decide +kernel
theorem dL_law_7 : decode cL_law 7 = .ok (.astore_n 1, 1) := by decide +kernel
theorem dL_law_8 : decode cL_law 8 = .ok (.new 44, 3) := by decide +kernel
theorem dL_law_11 : decode cL_law 11 = .ok (.dup, 1) := by decide +kernel
theorem dL_law_12 : decode cL_law 12 = .ok (.invokespecial 46, 3) := by decide +kernel
theorem dL_law_15 : decode cL_law 15 = .ok (.astore_n 2, 1) := by decide +kernel
theorem dL_law_16 : decode cL_law 16 = .ok (.iconst 1, 1) := by decide +kernel
theorem dL_law_17 : decode cL_law 17 = .ok (.newarray .long, 2) := by decide +kernel
theorem dL_law_19 : decode cL_law 19 = .ok (.astore_n 3, 1) := by decide +kernel
theorem dL_law_20 : decode cL_law 20 = .ok (.iconst 0, 1) := by decide +kernel
theorem dL_law_21 : decode cL_law 21 = .ok (.istore 4, 2) := by decide +kernel
theorem dL_law_23 : decode cL_law 23 = .ok (.iload 4, 2) := by decide +kernel
theorem dL_law_25 : decode cL_law 25 = .ok (.aload_n 0, 1) := by decide +kernel
theorem dL_law_26 : decode cL_law 26 = .ok (.arraylength, 1) := by decide +kernel
theorem dL_law_27 : decode cL_law 27 = .ok (.iconst 3, 1) := by decide +kernel
theorem dL_law_28 : decode cL_law 28 = .ok (.isub, 1) := by decide +kernel
theorem dL_law_29 : decode cL_law 29 = .ok (.if_icmp .gt 681, 3) := by decide +kernel
theorem dL_law_32 : decode cL_law 32 = .ok (.aload_n 0, 1) := by decide +kernel
theorem dL_law_33 : decode cL_law 33 = .ok (.iload 4, 2) := by decide +kernel
theorem dL_law_35 : decode cL_law 35 = .ok (.iaload, 1) := by decide +kernel
theorem dL_law_36 : decode cL_law 36 = .ok (.bipush 31, 2) := by decide +kernel
theorem dL_law_38 : decode cL_law 38 = .ok (.iand, 1) := by decide +kernel
theorem dL_law_39 : decode cL_law 39 = .ok (.tableswitch 665 0 16 #[81, 138, 182, 226, 239, 290, 303, 316, 384, 408, 421, 477, 502, 539, 564, 577, 640], 81) := by decide +kernel
theorem dL_law_120 : decode cL_law 120 = .ok (.aload_n 1, 1) := by decide +kernel
theorem dL_law_121 : decode cL_law 121 = .ok (.aload_n 0, 1) := by decide +kernel
theorem dL_law_122 : decode cL_law 122 = .ok (.iload 4, 2) := by decide +kernel
theorem dL_law_124 : decode cL_law 124 = .ok (.iconst 1, 1) := by decide +kernel
theorem dL_law_125 : decode cL_law 125 = .ok (.iadd, 1) := by decide +kernel
theorem dL_law_126 : decode cL_law 126 = .ok (.iaload, 1) := by decide +kernel
theorem dL_law_127 : decode cL_law 127 = .ok (.i2l, 1) := by decide +kernel
theorem dL_law_128 : decode cL_law 128 = .ok (.bipush 32, 2) := by decide +kernel
theorem dL_law_130 : decode cL_law 130 = .ok (.lshl, 1) := by decide +kernel
theorem dL_law_131 : decode cL_law 131 = .ok (.aload_n 0, 1) := by decide +kernel
theorem dL_law_132 : decode cL_law 132 = .ok (.iload 4, 2) := by decide +kernel
theorem dL_law_134 : decode cL_law 134 = .ok (.iconst 2, 1) := by decide +kernel
theorem dL_law_135 : decode cL_law 135 = .ok (.iadd, 1) := by decide +kernel
theorem dL_law_136 : decode cL_law 136 = .ok (.iaload, 1) := by decide +kernel
theorem dL_law_137 : decode cL_law 137 = .ok (.i2l, 1) := by decide +kernel
theorem dL_law_138 : decode cL_law 138 = .ok (.ldc2_w 47, 3) := by decide +kernel
theorem dL_law_141 : decode cL_law 141 = .ok (.land, 1) := by decide +kernel
theorem dL_law_142 : decode cL_law 142 = .ok (.lor, 1) := by decide +kernel
theorem dL_law_143 : decode cL_law 143 = .ok (.invokevirtual 49, 3) := by decide +kernel
theorem dL_law_146 : decode cL_law 146 = .ok (.aload_n 2, 1) := by decide +kernel
theorem dL_law_147 : decode cL_law 147 = .ok (.aload_n 0, 1) := by decide +kernel
theorem dL_law_148 : decode cL_law 148 = .ok (.iload 4, 2) := by decide +kernel
theorem dL_law_150 : decode cL_law 150 = .ok (.iconst 1, 1) := by decide +kernel
theorem dL_law_151 : decode cL_law 151 = .ok (.iadd, 1) := by decide +kernel
theorem dL_law_152 : decode cL_law 152 = .ok (.iaload, 1) := by decide +kernel
theorem dL_law_153 : decode cL_law 153 = .ok (.i2l, 1) := by decide +kernel
theorem dL_law_154 : decode cL_law 154 = .ok (.bipush 32, 2) := by decide +kernel
theorem dL_law_156 : decode cL_law 156 = .ok (.lshl, 1) := by decide +kernel
theorem dL_law_157 : decode cL_law 157 = .ok (.aload_n 0, 1) := by decide +kernel
theorem dL_law_158 : decode cL_law 158 = .ok (.iload 4, 2) := by decide +kernel
theorem dL_law_160 : decode cL_law 160 = .ok (.iconst 2, 1) := by decide +kernel
theorem dL_law_161 : decode cL_law 161 = .ok (.iadd, 1) := by decide +kernel
theorem dL_law_162 : decode cL_law 162 = .ok (.iaload, 1) := by decide +kernel
theorem dL_law_163 : decode cL_law 163 = .ok (.i2l, 1) := by decide +kernel
theorem dL_law_164 : decode cL_law 164 = .ok (.ldc2_w 47, 3) := by decide +kernel
theorem dL_law_167 : decode cL_law 167 = .ok (.land, 1) := by decide +kernel
theorem dL_law_168 : decode cL_law 168 = .ok (.lor, 1) := by decide +kernel
theorem dL_law_169 : decode cL_law 169 = .ok (.invokevirtual 53, 3) := by decide +kernel
theorem dL_law_172 : decode cL_law 172 = .ok (.if_icmp .eq 532, 3) := by decide +kernel
theorem dL_law_175 : decode cL_law 175 = .ok (.iconst 0, 1) := by decide +kernel
theorem dL_law_176 : decode cL_law 176 = .ok (.ireturn, 1) := by decide +kernel
theorem dL_law_177 : decode cL_law 177 = .ok (.aload_n 1, 1) := by decide +kernel
theorem dL_law_178 : decode cL_law 178 = .ok (.aload_n 3, 1) := by decide +kernel
theorem dL_law_179 : decode cL_law 179 = .ok (.invokestatic 54, 3) := by decide +kernel
theorem dL_law_182 : decode cL_law 182 = .ok (.istore 5, 2) := by decide +kernel
theorem dL_law_184 : decode cL_law 184 = .ok (.aload_n 2, 1) := by decide +kernel
theorem dL_law_185 : decode cL_law 185 = .ok (.invokevirtual 59, 3) := by decide +kernel
theorem dL_law_188 : decode cL_law 188 = .ok (.istore 6, 2) := by decide +kernel
theorem dL_law_190 : decode cL_law 190 = .ok (.aload_n 2, 1) := by decide +kernel
theorem dL_law_191 : decode cL_law 191 = .ok (.invokevirtual 60, 3) := by decide +kernel
theorem dL_law_194 : decode cL_law 194 = .ok (.iload 5, 2) := by decide +kernel
theorem dL_law_196 : decode cL_law 196 = .ok (.if_icmp .eq 5, 3) := by decide +kernel
theorem dL_law_199 : decode cL_law 199 = .ok (.iconst 0, 1) := by decide +kernel
theorem dL_law_200 : decode cL_law 200 = .ok (.ireturn, 1) := by decide +kernel
theorem dL_law_201 : decode cL_law 201 = .ok (.iload 5, 2) := by decide +kernel
theorem dL_law_203 : decode cL_law 203 = .ok (.ifCond .ne 15, 3) := by decide +kernel
theorem dL_law_206 : decode cL_law 206 = .ok (.aload_n 3, 1) := by decide +kernel
theorem dL_law_207 : decode cL_law 207 = .ok (.iconst 0, 1) := by decide +kernel
theorem dL_law_208 : decode cL_law 208 = .ok (.laload, 1) := by decide +kernel
theorem dL_law_209 : decode cL_law 209 = .ok (.iload 6, 2) := by decide +kernel
theorem dL_law_211 : decode cL_law 211 = .ok (.i2l, 1) := by decide +kernel
theorem dL_law_212 : decode cL_law 212 = .ok (.lcmp, 1) := by decide +kernel
theorem dL_law_213 : decode cL_law 213 = .ok (.ifCond .eq 5, 3) := by decide +kernel
theorem dL_law_216 : decode cL_law 216 = .ok (.iconst 0, 1) := by decide +kernel
theorem dL_law_217 : decode cL_law 217 = .ok (.ireturn, 1) := by decide +kernel
theorem dL_law_218 : decode cL_law 218 = .ok (.goto 486, 3) := by decide +kernel
theorem dL_law_221 : decode cL_law 221 = .ok (.aload_n 1, 1) := by decide +kernel
theorem dL_law_222 : decode cL_law 222 = .ok (.aload_n 3, 1) := by decide +kernel
theorem dL_law_223 : decode cL_law 223 = .ok (.invokestatic 63, 3) := by decide +kernel
theorem dL_law_226 : decode cL_law 226 = .ok (.istore 5, 2) := by decide +kernel
theorem dL_law_228 : decode cL_law 228 = .ok (.aload_n 2, 1) := by decide +kernel
theorem dL_law_229 : decode cL_law 229 = .ok (.invokevirtual 65, 3) := by decide +kernel
theorem dL_law_232 : decode cL_law 232 = .ok (.istore 6, 2) := by decide +kernel
theorem dL_law_234 : decode cL_law 234 = .ok (.aload_n 2, 1) := by decide +kernel
theorem dL_law_235 : decode cL_law 235 = .ok (.invokevirtual 60, 3) := by decide +kernel
theorem dL_law_238 : decode cL_law 238 = .ok (.iload 5, 2) := by decide +kernel
theorem dL_law_240 : decode cL_law 240 = .ok (.if_icmp .eq 5, 3) := by decide +kernel
theorem dL_law_243 : decode cL_law 243 = .ok (.iconst 0, 1) := by decide +kernel
theorem dL_law_244 : decode cL_law 244 = .ok (.ireturn, 1) := by decide +kernel
theorem dL_law_245 : decode cL_law 245 = .ok (.iload 5, 2) := by decide +kernel
theorem dL_law_247 : decode cL_law 247 = .ok (.ifCond .ne 15, 3) := by decide +kernel
theorem dL_law_250 : decode cL_law 250 = .ok (.aload_n 3, 1) := by decide +kernel
theorem dL_law_251 : decode cL_law 251 = .ok (.iconst 0, 1) := by decide +kernel
theorem dL_law_252 : decode cL_law 252 = .ok (.laload, 1) := by decide +kernel
theorem dL_law_253 : decode cL_law 253 = .ok (.iload 6, 2) := by decide +kernel
theorem dL_law_255 : decode cL_law 255 = .ok (.i2l, 1) := by decide +kernel
theorem dL_law_256 : decode cL_law 256 = .ok (.lcmp, 1) := by decide +kernel
theorem dL_law_257 : decode cL_law 257 = .ok (.ifCond .eq 5, 3) := by decide +kernel
theorem dL_law_260 : decode cL_law 260 = .ok (.iconst 0, 1) := by decide +kernel
theorem dL_law_261 : decode cL_law 261 = .ok (.ireturn, 1) := by decide +kernel
theorem dL_law_262 : decode cL_law 262 = .ok (.goto 442, 3) := by decide +kernel
theorem dL_law_265 : decode cL_law 265 = .ok (.aload_n 1, 1) := by decide +kernel
theorem dL_law_266 : decode cL_law 266 = .ok (.invokevirtual 66, 3) := by decide +kernel
theorem dL_law_269 : decode cL_law 269 = .ok (.aload_n 2, 1) := by decide +kernel
theorem dL_law_270 : decode cL_law 270 = .ok (.invokevirtual 69, 3) := by decide +kernel
theorem dL_law_273 : decode cL_law 273 = .ok (.if_icmp .eq 431, 3) := by decide +kernel
theorem dL_law_276 : decode cL_law 276 = .ok (.iconst 0, 1) := by decide +kernel
theorem dL_law_277 : decode cL_law 277 = .ok (.ireturn, 1) := by decide +kernel
theorem dL_law_278 : decode cL_law 278 = .ok (.aload_n 1, 1) := by decide +kernel
theorem dL_law_279 : decode cL_law 279 = .ok (.aload_n 3, 1) := by decide +kernel
theorem dL_law_280 : decode cL_law 280 = .ok (.invokestatic 70, 3) := by decide +kernel
theorem dL_law_283 : decode cL_law 283 = .ok (.istore 5, 2) := by decide +kernel
theorem dL_law_285 : decode cL_law 285 = .ok (.aload_n 2, 1) := by decide +kernel
theorem dL_law_286 : decode cL_law 286 = .ok (.invokevirtual 72, 3) := by decide +kernel
theorem dL_law_289 : decode cL_law 289 = .ok (.istore 6, 2) := by decide +kernel
theorem dL_law_291 : decode cL_law 291 = .ok (.aload_n 2, 1) := by decide +kernel
theorem dL_law_292 : decode cL_law 292 = .ok (.invokevirtual 60, 3) := by decide +kernel
theorem dL_law_295 : decode cL_law 295 = .ok (.iload 5, 2) := by decide +kernel
theorem dL_law_297 : decode cL_law 297 = .ok (.if_icmp .eq 5, 3) := by decide +kernel
theorem dL_law_300 : decode cL_law 300 = .ok (.iconst 0, 1) := by decide +kernel
theorem dL_law_301 : decode cL_law 301 = .ok (.ireturn, 1) := by decide +kernel
theorem dL_law_302 : decode cL_law 302 = .ok (.iload 5, 2) := by decide +kernel
theorem dL_law_304 : decode cL_law 304 = .ok (.ifCond .ne 22, 3) := by decide +kernel
theorem dL_law_307 : decode cL_law 307 = .ok (.aload_n 3, 1) := by decide +kernel
theorem dL_law_308 : decode cL_law 308 = .ok (.iconst 0, 1) := by decide +kernel
theorem dL_law_309 : decode cL_law 309 = .ok (.laload, 1) := by decide +kernel
theorem dL_law_310 : decode cL_law 310 = .ok (.iload 6, 2) := by decide +kernel
theorem dL_law_312 : decode cL_law 312 = .ok (.ifCond .eq 7, 3) := by decide +kernel
theorem dL_law_315 : decode cL_law 315 = .ok (.lconst 1, 1) := by decide +kernel
theorem dL_law_316 : decode cL_law 316 = .ok (.goto 4, 3) := by decide +kernel
theorem dL_law_319 : decode cL_law 319 = .ok (.lconst 0, 1) := by decide +kernel
theorem dL_law_320 : decode cL_law 320 = .ok (.lcmp, 1) := by decide +kernel
theorem dL_law_321 : decode cL_law 321 = .ok (.ifCond .eq 5, 3) := by decide +kernel
theorem dL_law_324 : decode cL_law 324 = .ok (.iconst 0, 1) := by decide +kernel
theorem dL_law_325 : decode cL_law 325 = .ok (.ireturn, 1) := by decide +kernel
theorem dL_law_326 : decode cL_law 326 = .ok (.goto 378, 3) := by decide +kernel
theorem dL_law_329 : decode cL_law 329 = .ok (.aload_n 1, 1) := by decide +kernel
theorem dL_law_330 : decode cL_law 330 = .ok (.invokevirtual 73, 3) := by decide +kernel
theorem dL_law_333 : decode cL_law 333 = .ok (.aload_n 2, 1) := by decide +kernel
theorem dL_law_334 : decode cL_law 334 = .ok (.invokevirtual 76, 3) := by decide +kernel
theorem dL_law_337 : decode cL_law 337 = .ok (.if_icmp .eq 367, 3) := by decide +kernel
theorem dL_law_340 : decode cL_law 340 = .ok (.iconst 0, 1) := by decide +kernel
theorem dL_law_341 : decode cL_law 341 = .ok (.ireturn, 1) := by decide +kernel
theorem dL_law_342 : decode cL_law 342 = .ok (.aload_n 1, 1) := by decide +kernel
theorem dL_law_343 : decode cL_law 343 = .ok (.invokevirtual 77, 3) := by decide +kernel
theorem dL_law_346 : decode cL_law 346 = .ok (.aload_n 2, 1) := by decide +kernel
theorem dL_law_347 : decode cL_law 347 = .ok (.invokevirtual 80, 3) := by decide +kernel
theorem dL_law_350 : decode cL_law 350 = .ok (.if_icmp .eq 354, 3) := by decide +kernel
theorem dL_law_353 : decode cL_law 353 = .ok (.iconst 0, 1) := by decide +kernel
theorem dL_law_354 : decode cL_law 354 = .ok (.ireturn, 1) := by decide +kernel
theorem dL_law_355 : decode cL_law 355 = .ok (.aload_n 1, 1) := by decide +kernel
theorem dL_law_356 : decode cL_law 356 = .ok (.aload_n 0, 1) := by decide +kernel
theorem dL_law_357 : decode cL_law 357 = .ok (.iload 4, 2) := by decide +kernel
theorem dL_law_359 : decode cL_law 359 = .ok (.iconst 1, 1) := by decide +kernel
theorem dL_law_360 : decode cL_law 360 = .ok (.iadd, 1) := by decide +kernel
theorem dL_law_361 : decode cL_law 361 = .ok (.iaload, 1) := by decide +kernel
theorem dL_law_362 : decode cL_law 362 = .ok (.aload_n 0, 1) := by decide +kernel
theorem dL_law_363 : decode cL_law 363 = .ok (.iload 4, 2) := by decide +kernel
theorem dL_law_365 : decode cL_law 365 = .ok (.iconst 2, 1) := by decide +kernel
theorem dL_law_366 : decode cL_law 366 = .ok (.iadd, 1) := by decide +kernel
theorem dL_law_367 : decode cL_law 367 = .ok (.iaload, 1) := by decide +kernel
theorem dL_law_368 : decode cL_law 368 = .ok (.aload_n 3, 1) := by decide +kernel
theorem dL_law_369 : decode cL_law 369 = .ok (.invokestatic 81, 3) := by decide +kernel
theorem dL_law_372 : decode cL_law 372 = .ok (.istore 5, 2) := by decide +kernel
theorem dL_law_374 : decode cL_law 374 = .ok (.aload_n 2, 1) := by decide +kernel
theorem dL_law_375 : decode cL_law 375 = .ok (.aload_n 0, 1) := by decide +kernel
theorem dL_law_376 : decode cL_law 376 = .ok (.iload 4, 2) := by decide +kernel
theorem dL_law_378 : decode cL_law 378 = .ok (.iconst 1, 1) := by decide +kernel
theorem dL_law_379 : decode cL_law 379 = .ok (.iadd, 1) := by decide +kernel
theorem dL_law_380 : decode cL_law 380 = .ok (.iaload, 1) := by decide +kernel
theorem dL_law_381 : decode cL_law 381 = .ok (.aload_n 0, 1) := by decide +kernel
theorem dL_law_382 : decode cL_law 382 = .ok (.iload 4, 2) := by decide +kernel
theorem dL_law_384 : decode cL_law 384 = .ok (.iconst 2, 1) := by decide +kernel
theorem dL_law_385 : decode cL_law 385 = .ok (.iadd, 1) := by decide +kernel
theorem dL_law_386 : decode cL_law 386 = .ok (.iaload, 1) := by decide +kernel
theorem dL_law_387 : decode cL_law 387 = .ok (.invokevirtual 84, 3) := by decide +kernel
theorem dL_law_390 : decode cL_law 390 = .ok (.istore 6, 2) := by decide +kernel
theorem dL_law_392 : decode cL_law 392 = .ok (.aload_n 2, 1) := by decide +kernel
theorem dL_law_393 : decode cL_law 393 = .ok (.invokevirtual 60, 3) := by decide +kernel
theorem dL_law_396 : decode cL_law 396 = .ok (.iload 5, 2) := by decide +kernel
theorem dL_law_398 : decode cL_law 398 = .ok (.if_icmp .eq 5, 3) := by decide +kernel
theorem dL_law_401 : decode cL_law 401 = .ok (.iconst 0, 1) := by decide +kernel
theorem dL_law_402 : decode cL_law 402 = .ok (.ireturn, 1) := by decide +kernel
theorem dL_law_403 : decode cL_law 403 = .ok (.iload 5, 2) := by decide +kernel
theorem dL_law_405 : decode cL_law 405 = .ok (.ifCond .ne 15, 3) := by decide +kernel
theorem dL_law_408 : decode cL_law 408 = .ok (.aload_n 3, 1) := by decide +kernel
theorem dL_law_409 : decode cL_law 409 = .ok (.iconst 0, 1) := by decide +kernel
theorem dL_law_410 : decode cL_law 410 = .ok (.laload, 1) := by decide +kernel
theorem dL_law_411 : decode cL_law 411 = .ok (.iload 6, 2) := by decide +kernel
theorem dL_law_413 : decode cL_law 413 = .ok (.i2l, 1) := by decide +kernel
theorem dL_law_414 : decode cL_law 414 = .ok (.lcmp, 1) := by decide +kernel
theorem dL_law_415 : decode cL_law 415 = .ok (.ifCond .eq 5, 3) := by decide +kernel
theorem dL_law_418 : decode cL_law 418 = .ok (.iconst 0, 1) := by decide +kernel
theorem dL_law_419 : decode cL_law 419 = .ok (.ireturn, 1) := by decide +kernel
theorem dL_law_420 : decode cL_law 420 = .ok (.goto 284, 3) := by decide +kernel
theorem dL_law_423 : decode cL_law 423 = .ok (.aload_n 1, 1) := by decide +kernel
theorem dL_law_424 : decode cL_law 424 = .ok (.invokestatic 85, 3) := by decide +kernel
theorem dL_law_427 : decode cL_law 427 = .ok (.istore 5, 2) := by decide +kernel
theorem dL_law_429 : decode cL_law 429 = .ok (.aload_n 2, 1) := by decide +kernel
theorem dL_law_430 : decode cL_law 430 = .ok (.invokevirtual 88, 3) := by decide +kernel
theorem dL_law_433 : decode cL_law 433 = .ok (.aload_n 2, 1) := by decide +kernel
theorem dL_law_434 : decode cL_law 434 = .ok (.invokevirtual 60, 3) := by decide +kernel
theorem dL_law_437 : decode cL_law 437 = .ok (.iload 5, 2) := by decide +kernel
theorem dL_law_439 : decode cL_law 439 = .ok (.if_icmp .eq 5, 3) := by decide +kernel
theorem dL_law_442 : decode cL_law 442 = .ok (.iconst 0, 1) := by decide +kernel
theorem dL_law_443 : decode cL_law 443 = .ok (.ireturn, 1) := by decide +kernel
theorem dL_law_444 : decode cL_law 444 = .ok (.goto 260, 3) := by decide +kernel
theorem dL_law_447 : decode cL_law 447 = .ok (.aload_n 1, 1) := by decide +kernel
theorem dL_law_448 : decode cL_law 448 = .ok (.invokevirtual 89, 3) := by decide +kernel
theorem dL_law_451 : decode cL_law 451 = .ok (.aload_n 2, 1) := by decide +kernel
theorem dL_law_452 : decode cL_law 452 = .ok (.invokevirtual 92, 3) := by decide +kernel
theorem dL_law_455 : decode cL_law 455 = .ok (.if_icmp .eq 249, 3) := by decide +kernel
theorem dL_law_458 : decode cL_law 458 = .ok (.iconst 0, 1) := by decide +kernel
theorem dL_law_459 : decode cL_law 459 = .ok (.ireturn, 1) := by decide +kernel
theorem dL_law_460 : decode cL_law 460 = .ok (.aload_n 1, 1) := by decide +kernel
theorem dL_law_461 : decode cL_law 461 = .ok (.aload_n 0, 1) := by decide +kernel
theorem dL_law_462 : decode cL_law 462 = .ok (.iload 4, 2) := by decide +kernel
theorem dL_law_464 : decode cL_law 464 = .ok (.iconst 1, 1) := by decide +kernel
theorem dL_law_465 : decode cL_law 465 = .ok (.iadd, 1) := by decide +kernel
theorem dL_law_466 : decode cL_law 466 = .ok (.iaload, 1) := by decide +kernel
theorem dL_law_467 : decode cL_law 467 = .ok (.aload_n 3, 1) := by decide +kernel
theorem dL_law_468 : decode cL_law 468 = .ok (.invokestatic 93, 3) := by decide +kernel
theorem dL_law_471 : decode cL_law 471 = .ok (.istore 5, 2) := by decide +kernel
theorem dL_law_473 : decode cL_law 473 = .ok (.aload_n 2, 1) := by decide +kernel
theorem dL_law_474 : decode cL_law 474 = .ok (.aload_n 0, 1) := by decide +kernel
theorem dL_law_475 : decode cL_law 475 = .ok (.iload 4, 2) := by decide +kernel
theorem dL_law_477 : decode cL_law 477 = .ok (.iconst 1, 1) := by decide +kernel
theorem dL_law_478 : decode cL_law 478 = .ok (.iadd, 1) := by decide +kernel
theorem dL_law_479 : decode cL_law 479 = .ok (.iaload, 1) := by decide +kernel
theorem dL_law_480 : decode cL_law 480 = .ok (.invokevirtual 96, 3) := by decide +kernel
theorem dL_law_483 : decode cL_law 483 = .ok (.istore 6, 2) := by decide +kernel
theorem dL_law_485 : decode cL_law 485 = .ok (.aload_n 2, 1) := by decide +kernel
theorem dL_law_486 : decode cL_law 486 = .ok (.invokevirtual 60, 3) := by decide +kernel
theorem dL_law_489 : decode cL_law 489 = .ok (.iload 5, 2) := by decide +kernel
theorem dL_law_491 : decode cL_law 491 = .ok (.if_icmp .eq 5, 3) := by decide +kernel
theorem dL_law_494 : decode cL_law 494 = .ok (.iconst 0, 1) := by decide +kernel
theorem dL_law_495 : decode cL_law 495 = .ok (.ireturn, 1) := by decide +kernel
theorem dL_law_496 : decode cL_law 496 = .ok (.iload 5, 2) := by decide +kernel
theorem dL_law_498 : decode cL_law 498 = .ok (.ifCond .ne 15, 3) := by decide +kernel
theorem dL_law_501 : decode cL_law 501 = .ok (.aload_n 3, 1) := by decide +kernel
theorem dL_law_502 : decode cL_law 502 = .ok (.iconst 0, 1) := by decide +kernel
theorem dL_law_503 : decode cL_law 503 = .ok (.laload, 1) := by decide +kernel
theorem dL_law_504 : decode cL_law 504 = .ok (.iload 6, 2) := by decide +kernel
theorem dL_law_506 : decode cL_law 506 = .ok (.i2l, 1) := by decide +kernel
theorem dL_law_507 : decode cL_law 507 = .ok (.lcmp, 1) := by decide +kernel
theorem dL_law_508 : decode cL_law 508 = .ok (.ifCond .eq 5, 3) := by decide +kernel
theorem dL_law_511 : decode cL_law 511 = .ok (.iconst 0, 1) := by decide +kernel
theorem dL_law_512 : decode cL_law 512 = .ok (.ireturn, 1) := by decide +kernel
theorem dL_law_513 : decode cL_law 513 = .ok (.goto 191, 3) := by decide +kernel
theorem dL_law_516 : decode cL_law 516 = .ok (.aload_n 1, 1) := by decide +kernel
theorem dL_law_517 : decode cL_law 517 = .ok (.aload_n 0, 1) := by decide +kernel
theorem dL_law_518 : decode cL_law 518 = .ok (.iload 4, 2) := by decide +kernel
theorem dL_law_520 : decode cL_law 520 = .ok (.iconst 1, 1) := by decide +kernel
theorem dL_law_521 : decode cL_law 521 = .ok (.iadd, 1) := by decide +kernel
theorem dL_law_522 : decode cL_law 522 = .ok (.iaload, 1) := by decide +kernel
theorem dL_law_523 : decode cL_law 523 = .ok (.invokevirtual 97, 3) := by decide +kernel
theorem dL_law_526 : decode cL_law 526 = .ok (.aload_n 2, 1) := by decide +kernel
theorem dL_law_527 : decode cL_law 527 = .ok (.aload_n 0, 1) := by decide +kernel
theorem dL_law_528 : decode cL_law 528 = .ok (.iload 4, 2) := by decide +kernel
theorem dL_law_530 : decode cL_law 530 = .ok (.iconst 1, 1) := by decide +kernel
theorem dL_law_531 : decode cL_law 531 = .ok (.iadd, 1) := by decide +kernel
theorem dL_law_532 : decode cL_law 532 = .ok (.iaload, 1) := by decide +kernel
theorem dL_law_533 : decode cL_law 533 = .ok (.invokevirtual 100, 3) := by decide +kernel
theorem dL_law_536 : decode cL_law 536 = .ok (.if_icmp .eq 168, 3) := by decide +kernel
theorem dL_law_539 : decode cL_law 539 = .ok (.iconst 0, 1) := by decide +kernel
theorem dL_law_540 : decode cL_law 540 = .ok (.ireturn, 1) := by decide +kernel
theorem dL_law_541 : decode cL_law 541 = .ok (.aload_n 1, 1) := by decide +kernel
theorem dL_law_542 : decode cL_law 542 = .ok (.aload_n 0, 1) := by decide +kernel
theorem dL_law_543 : decode cL_law 543 = .ok (.iload 4, 2) := by decide +kernel
theorem dL_law_545 : decode cL_law 545 = .ok (.iconst 1, 1) := by decide +kernel
theorem dL_law_546 : decode cL_law 546 = .ok (.iadd, 1) := by decide +kernel
theorem dL_law_547 : decode cL_law 547 = .ok (.iaload, 1) := by decide +kernel
theorem dL_law_548 : decode cL_law 548 = .ok (.aload_n 0, 1) := by decide +kernel
theorem dL_law_549 : decode cL_law 549 = .ok (.iload 4, 2) := by decide +kernel
theorem dL_law_551 : decode cL_law 551 = .ok (.iconst 2, 1) := by decide +kernel
theorem dL_law_552 : decode cL_law 552 = .ok (.iadd, 1) := by decide +kernel
theorem dL_law_553 : decode cL_law 553 = .ok (.iaload, 1) := by decide +kernel
theorem dL_law_554 : decode cL_law 554 = .ok (.invokevirtual 101, 3) := by decide +kernel
theorem dL_law_557 : decode cL_law 557 = .ok (.aload_n 2, 1) := by decide +kernel
theorem dL_law_558 : decode cL_law 558 = .ok (.aload_n 0, 1) := by decide +kernel
theorem dL_law_559 : decode cL_law 559 = .ok (.iload 4, 2) := by decide +kernel
theorem dL_law_561 : decode cL_law 561 = .ok (.iconst 1, 1) := by decide +kernel
theorem dL_law_562 : decode cL_law 562 = .ok (.iadd, 1) := by decide +kernel
theorem dL_law_563 : decode cL_law 563 = .ok (.iaload, 1) := by decide +kernel
theorem dL_law_564 : decode cL_law 564 = .ok (.aload_n 0, 1) := by decide +kernel
theorem dL_law_565 : decode cL_law 565 = .ok (.iload 4, 2) := by decide +kernel
theorem dL_law_567 : decode cL_law 567 = .ok (.iconst 2, 1) := by decide +kernel
theorem dL_law_568 : decode cL_law 568 = .ok (.iadd, 1) := by decide +kernel
theorem dL_law_569 : decode cL_law 569 = .ok (.iaload, 1) := by decide +kernel
theorem dL_law_570 : decode cL_law 570 = .ok (.invokevirtual 104, 3) := by decide +kernel
theorem dL_law_573 : decode cL_law 573 = .ok (.if_icmp .eq 131, 3) := by decide +kernel
theorem dL_law_576 : decode cL_law 576 = .ok (.iconst 0, 1) := by decide +kernel
theorem dL_law_577 : decode cL_law 577 = .ok (.ireturn, 1) := by decide +kernel
theorem dL_law_578 : decode cL_law 578 = .ok (.aload_n 1, 1) := by decide +kernel
theorem dL_law_579 : decode cL_law 579 = .ok (.aload_n 0, 1) := by decide +kernel
theorem dL_law_580 : decode cL_law 580 = .ok (.iload 4, 2) := by decide +kernel
theorem dL_law_582 : decode cL_law 582 = .ok (.iconst 1, 1) := by decide +kernel
theorem dL_law_583 : decode cL_law 583 = .ok (.iadd, 1) := by decide +kernel
theorem dL_law_584 : decode cL_law 584 = .ok (.iaload, 1) := by decide +kernel
theorem dL_law_585 : decode cL_law 585 = .ok (.invokevirtual 105, 3) := by decide +kernel
theorem dL_law_588 : decode cL_law 588 = .ok (.aload_n 2, 1) := by decide +kernel
theorem dL_law_589 : decode cL_law 589 = .ok (.aload_n 0, 1) := by decide +kernel
theorem dL_law_590 : decode cL_law 590 = .ok (.iload 4, 2) := by decide +kernel
theorem dL_law_592 : decode cL_law 592 = .ok (.iconst 1, 1) := by decide +kernel
theorem dL_law_593 : decode cL_law 593 = .ok (.iadd, 1) := by decide +kernel
theorem dL_law_594 : decode cL_law 594 = .ok (.iaload, 1) := by decide +kernel
theorem dL_law_595 : decode cL_law 595 = .ok (.invokevirtual 108, 3) := by decide +kernel
theorem dL_law_598 : decode cL_law 598 = .ok (.if_icmp .eq 106, 3) := by decide +kernel
theorem dL_law_601 : decode cL_law 601 = .ok (.iconst 0, 1) := by decide +kernel
theorem dL_law_602 : decode cL_law 602 = .ok (.ireturn, 1) := by decide +kernel
theorem dL_law_603 : decode cL_law 603 = .ok (.aload_n 1, 1) := by decide +kernel
theorem dL_law_604 : decode cL_law 604 = .ok (.invokevirtual 109, 3) := by decide +kernel
theorem dL_law_607 : decode cL_law 607 = .ok (.aload_n 2, 1) := by decide +kernel
theorem dL_law_608 : decode cL_law 608 = .ok (.invokevirtual 112, 3) := by decide +kernel
theorem dL_law_611 : decode cL_law 611 = .ok (.if_icmp .eq 93, 3) := by decide +kernel
theorem dL_law_614 : decode cL_law 614 = .ok (.iconst 0, 1) := by decide +kernel
theorem dL_law_615 : decode cL_law 615 = .ok (.ireturn, 1) := by decide +kernel
theorem dL_law_616 : decode cL_law 616 = .ok (.aload_n 1, 1) := by decide +kernel
theorem dL_law_617 : decode cL_law 617 = .ok (.aload_n 0, 1) := by decide +kernel
theorem dL_law_618 : decode cL_law 618 = .ok (.iload 4, 2) := by decide +kernel
theorem dL_law_620 : decode cL_law 620 = .ok (.iconst 1, 1) := by decide +kernel
theorem dL_law_621 : decode cL_law 621 = .ok (.iadd, 1) := by decide +kernel
theorem dL_law_622 : decode cL_law 622 = .ok (.iaload, 1) := by decide +kernel
theorem dL_law_623 : decode cL_law 623 = .ok (.aload_n 3, 1) := by decide +kernel
theorem dL_law_624 : decode cL_law 624 = .ok (.invokestatic 113, 3) := by decide +kernel
theorem dL_law_627 : decode cL_law 627 = .ok (.istore 5, 2) := by decide +kernel
theorem dL_law_629 : decode cL_law 629 = .ok (.aload_n 2, 1) := by decide +kernel
theorem dL_law_630 : decode cL_law 630 = .ok (.aload_n 0, 1) := by decide +kernel
theorem dL_law_631 : decode cL_law 631 = .ok (.iload 4, 2) := by decide +kernel
theorem dL_law_633 : decode cL_law 633 = .ok (.iconst 1, 1) := by decide +kernel
theorem dL_law_634 : decode cL_law 634 = .ok (.iadd, 1) := by decide +kernel
theorem dL_law_635 : decode cL_law 635 = .ok (.iaload, 1) := by decide +kernel
theorem dL_law_636 : decode cL_law 636 = .ok (.invokevirtual 115, 3) := by decide +kernel
theorem dL_law_639 : decode cL_law 639 = .ok (.istore 6, 2) := by decide +kernel
theorem dL_law_641 : decode cL_law 641 = .ok (.aload_n 2, 1) := by decide +kernel
theorem dL_law_642 : decode cL_law 642 = .ok (.invokevirtual 60, 3) := by decide +kernel
theorem dL_law_645 : decode cL_law 645 = .ok (.iload 5, 2) := by decide +kernel
theorem dL_law_647 : decode cL_law 647 = .ok (.if_icmp .eq 5, 3) := by decide +kernel
theorem dL_law_650 : decode cL_law 650 = .ok (.iconst 0, 1) := by decide +kernel
theorem dL_law_651 : decode cL_law 651 = .ok (.ireturn, 1) := by decide +kernel
theorem dL_law_652 : decode cL_law 652 = .ok (.iload 5, 2) := by decide +kernel
theorem dL_law_654 : decode cL_law 654 = .ok (.ifCond .ne 22, 3) := by decide +kernel
theorem dL_law_657 : decode cL_law 657 = .ok (.aload_n 3, 1) := by decide +kernel
theorem dL_law_658 : decode cL_law 658 = .ok (.iconst 0, 1) := by decide +kernel
theorem dL_law_659 : decode cL_law 659 = .ok (.laload, 1) := by decide +kernel
theorem dL_law_660 : decode cL_law 660 = .ok (.iload 6, 2) := by decide +kernel
theorem dL_law_662 : decode cL_law 662 = .ok (.ifCond .eq 7, 3) := by decide +kernel
theorem dL_law_665 : decode cL_law 665 = .ok (.lconst 1, 1) := by decide +kernel
theorem dL_law_666 : decode cL_law 666 = .ok (.goto 4, 3) := by decide +kernel
theorem dL_law_669 : decode cL_law 669 = .ok (.lconst 0, 1) := by decide +kernel
theorem dL_law_670 : decode cL_law 670 = .ok (.lcmp, 1) := by decide +kernel
theorem dL_law_671 : decode cL_law 671 = .ok (.ifCond .eq 5, 3) := by decide +kernel
theorem dL_law_674 : decode cL_law 674 = .ok (.iconst 0, 1) := by decide +kernel
theorem dL_law_675 : decode cL_law 675 = .ok (.ireturn, 1) := by decide +kernel
theorem dL_law_676 : decode cL_law 676 = .ok (.goto 28, 3) := by decide +kernel
theorem dL_law_679 : decode cL_law 679 = .ok (.aload_n 1, 1) := by decide +kernel
theorem dL_law_680 : decode cL_law 680 = .ok (.aload_n 0, 1) := by decide +kernel
theorem dL_law_681 : decode cL_law 681 = .ok (.iload 4, 2) := by decide +kernel
theorem dL_law_683 : decode cL_law 683 = .ok (.iconst 1, 1) := by decide +kernel
theorem dL_law_684 : decode cL_law 684 = .ok (.iadd, 1) := by decide +kernel
theorem dL_law_685 : decode cL_law 685 = .ok (.iaload, 1) := by decide +kernel
theorem dL_law_686 : decode cL_law 686 = .ok (.invokevirtual 116, 3) := by decide +kernel
theorem dL_law_689 : decode cL_law 689 = .ok (.aload_n 2, 1) := by decide +kernel
theorem dL_law_690 : decode cL_law 690 = .ok (.aload_n 0, 1) := by decide +kernel
theorem dL_law_691 : decode cL_law 691 = .ok (.iload 4, 2) := by decide +kernel
theorem dL_law_693 : decode cL_law 693 = .ok (.iconst 1, 1) := by decide +kernel
theorem dL_law_694 : decode cL_law 694 = .ok (.iadd, 1) := by decide +kernel
theorem dL_law_695 : decode cL_law 695 = .ok (.iaload, 1) := by decide +kernel
theorem dL_law_696 : decode cL_law 696 = .ok (.invokevirtual 119, 3) := by decide +kernel
theorem dL_law_699 : decode cL_law 699 = .ok (.if_icmp .eq 5, 3) := by decide +kernel
theorem dL_law_702 : decode cL_law 702 = .ok (.iconst 0, 1) := by decide +kernel
theorem dL_law_703 : decode cL_law 703 = .ok (.ireturn, 1) := by decide +kernel
theorem dL_law_704 : decode cL_law 704 = .ok (.iinc 4 3, 3) := by decide +kernel
theorem dL_law_707 : decode cL_law 707 = .ok (.goto (-684), 3) := by decide +kernel
theorem dL_law_710 : decode cL_law 710 = .ok (.iconst 1, 1) := by decide +kernel
theorem dL_law_711 : decode cL_law 711 = .ok (.ireturn, 1) := by decide +kernel
abbrev ML_law : zT := (⟨"LassoFinderLaw", "law", "([I)Z"⟩, cL_law, 7, some .boolean, [])
noncomputable def f_L_law_710 (L : Nat) (X : Nat → Int) (σ : zM) : Option zO :=
  zgd (z01 1) <|
  some (0, zi 1, σ)
theorem w_L_law_710 {g : zG} {lv : Nat} {out : zO} (σ : zM) {r : zO} (h : f_L_law_710 (zL g) (zXi g)  σ = some r) (hk : (fun o : zO => o = out) r) : Gj g ML_law (lv + 95) 710 [] [] σ out := by
  revert h
  unfold f_L_law_710
  refine zst_ (gj_iconst (pc := 710) dL_law_710 (by decide)) ?_
  refine gb_gd (fun hb => ?_)
  intro h
  cases h
  have hk : (0, zi 1, σ) = out := hk
  subst hk
  exact gj_ret (pc := 711) (t := .boolean) dL_law_711 rfl ⟨rfl, rfl⟩ (fun _ => z01E hb)
noncomputable def f_L_law_704 (L : Nat) (X : Nat → Int) (x1 x2 x3 x4 : Int) (σ : zM) : Option ((Int × zM) ⊕ zO) :=
  zlet (zadd x4 3) fun y1 =>
  some (.inl (y1, σ))
theorem w_L_law_704 {g : zG} {lv : Nat} {out : zO} (x1 x2 x3 x4 : Int) (σ : zM) {r : ((Int × zM) ⊕ zO)} (h : f_L_law_704 (zL g) (zXi g) x1 x2 x3 x4 σ = some r) (hk : (zKL (fun s : Int × zM => Gj g ML_law (lv + 95) 23 [(0, zq (-20)), (1, zr x1), (2, zr x2), (3, zr x3), (4, zi s.1)] [] s.2 out) (fun o : zO => o = out)) r) : Gj g ML_law (lv + 95) 704 [(0, zq (-20)), (1, zr x1), (2, zr x2), (3, zr x3), (4, zi x4)] [] σ out := by
  revert h
  unfold f_L_law_704
  refine gb_iinc (pc := 704) 4 (fun y1 => [(4, zi y1), (0, zq (-20)), (1, zr x1), (2, zr x2), (3, zr x3)]) dL_law_704 rfl (by decide) (fun _ => rfl) (fun y1 => ?_)
  refine zst_ (gj_goto 23 (pc := 707) dL_law_707 (by decide)) ?_
  refine zst_ (gj_sub [1, 2, 3, 4, 0] rfl) ?_
  intro h
  cases h
  exact hk
noncomputable def f_L_law_175 (L : Nat) (X : Nat → Int) (σ : zM) : Option zO :=
  zgd (z01 0) <|
  some (0, zi 0, σ)
theorem w_L_law_175 {g : zG} {lv : Nat} {out : zO} (σ : zM) {r : zO} (h : f_L_law_175 (zL g) (zXi g)  σ = some r) (hk : (fun o : zO => o = out) r) : Gj g ML_law (lv + 95) 175 [] [] σ out := by
  revert h
  unfold f_L_law_175
  refine zst_ (gj_iconst (pc := 175) dL_law_175 (by decide)) ?_
  refine gb_gd (fun hb => ?_)
  intro h
  cases h
  have hk : (0, zi 0, σ) = out := hk
  subst hk
  exact gj_ret (pc := 176) (t := .boolean) dL_law_176 rfl ⟨rfl, rfl⟩ (fun _ => z01E hb)
noncomputable def f_L_law_218 (L : Nat) (X : Nat → Int) (x1 x2 x3 x4 : Int) (σ : zM) : Option ((Int × zM) ⊕ zO) :=
  f_L_law_704 L X x1 x2 x3 x4 σ
theorem w_L_law_218 {g : zG} {lv : Nat} {out : zO} (x1 x2 x3 x4 : Int) (σ : zM) {r : ((Int × zM) ⊕ zO)} (h : f_L_law_218 (zL g) (zXi g) x1 x2 x3 x4 σ = some r) (hk : (zKL (fun s : Int × zM => Gj g ML_law (lv + 95) 23 [(0, zq (-20)), (1, zr x1), (2, zr x2), (3, zr x3), (4, zi s.1)] [] s.2 out) (fun o : zO => o = out)) r) : Gj g ML_law (lv + 95) 218 [(0, zq (-20)), (1, zr x1), (2, zr x2), (3, zr x3), (4, zi x4)] [] σ out := by
  revert h
  unfold f_L_law_218
  refine zst_ (gj_goto 704 (pc := 218) dL_law_218 (by decide)) ?_
  exact fun h => w_L_law_704 x1 x2 x3 x4 σ h hk
noncomputable def f_L_law_216 (L : Nat) (X : Nat → Int) (σ : zM) : Option zO :=
  zgd (z01 0) <|
  some (0, zi 0, σ)
theorem w_L_law_216 {g : zG} {lv : Nat} {out : zO} (σ : zM) {r : zO} (h : f_L_law_216 (zL g) (zXi g)  σ = some r) (hk : (fun o : zO => o = out) r) : Gj g ML_law (lv + 95) 216 [] [] σ out := by
  revert h
  unfold f_L_law_216
  refine zst_ (gj_iconst (pc := 216) dL_law_216 (by decide)) ?_
  refine gb_gd (fun hb => ?_)
  intro h
  cases h
  have hk : (0, zi 0, σ) = out := hk
  subst hk
  exact gj_ret (pc := 217) (t := .boolean) dL_law_217 rfl ⟨rfl, rfl⟩ (fun _ => z01E hb)
noncomputable def f_L_law_199 (L : Nat) (X : Nat → Int) (σ : zM) : Option zO :=
  zgd (z01 0) <|
  some (0, zi 0, σ)
theorem w_L_law_199 {g : zG} {lv : Nat} {out : zO} (σ : zM) {r : zO} (h : f_L_law_199 (zL g) (zXi g)  σ = some r) (hk : (fun o : zO => o = out) r) : Gj g ML_law (lv + 95) 199 [] [] σ out := by
  revert h
  unfold f_L_law_199
  refine zst_ (gj_iconst (pc := 199) dL_law_199 (by decide)) ?_
  refine gb_gd (fun hb => ?_)
  intro h
  cases h
  have hk : (0, zi 0, σ) = out := hk
  subst hk
  exact gj_ret (pc := 200) (t := .boolean) dL_law_200 rfl ⟨rfl, rfl⟩ (fun _ => z01E hb)
noncomputable def f_L_law_262 (L : Nat) (X : Nat → Int) (x1 x2 x3 x4 : Int) (σ : zM) : Option ((Int × zM) ⊕ zO) :=
  f_L_law_704 L X x1 x2 x3 x4 σ
theorem w_L_law_262 {g : zG} {lv : Nat} {out : zO} (x1 x2 x3 x4 : Int) (σ : zM) {r : ((Int × zM) ⊕ zO)} (h : f_L_law_262 (zL g) (zXi g) x1 x2 x3 x4 σ = some r) (hk : (zKL (fun s : Int × zM => Gj g ML_law (lv + 95) 23 [(0, zq (-20)), (1, zr x1), (2, zr x2), (3, zr x3), (4, zi s.1)] [] s.2 out) (fun o : zO => o = out)) r) : Gj g ML_law (lv + 95) 262 [(0, zq (-20)), (1, zr x1), (2, zr x2), (3, zr x3), (4, zi x4)] [] σ out := by
  revert h
  unfold f_L_law_262
  refine zst_ (gj_goto 704 (pc := 262) dL_law_262 (by decide)) ?_
  exact fun h => w_L_law_704 x1 x2 x3 x4 σ h hk
noncomputable def f_L_law_260 (L : Nat) (X : Nat → Int) (σ : zM) : Option zO :=
  zgd (z01 0) <|
  some (0, zi 0, σ)
theorem w_L_law_260 {g : zG} {lv : Nat} {out : zO} (σ : zM) {r : zO} (h : f_L_law_260 (zL g) (zXi g)  σ = some r) (hk : (fun o : zO => o = out) r) : Gj g ML_law (lv + 95) 260 [] [] σ out := by
  revert h
  unfold f_L_law_260
  refine zst_ (gj_iconst (pc := 260) dL_law_260 (by decide)) ?_
  refine gb_gd (fun hb => ?_)
  intro h
  cases h
  have hk : (0, zi 0, σ) = out := hk
  subst hk
  exact gj_ret (pc := 261) (t := .boolean) dL_law_261 rfl ⟨rfl, rfl⟩ (fun _ => z01E hb)
noncomputable def f_L_law_243 (L : Nat) (X : Nat → Int) (σ : zM) : Option zO :=
  zgd (z01 0) <|
  some (0, zi 0, σ)
theorem w_L_law_243 {g : zG} {lv : Nat} {out : zO} (σ : zM) {r : zO} (h : f_L_law_243 (zL g) (zXi g)  σ = some r) (hk : (fun o : zO => o = out) r) : Gj g ML_law (lv + 95) 243 [] [] σ out := by
  revert h
  unfold f_L_law_243
  refine zst_ (gj_iconst (pc := 243) dL_law_243 (by decide)) ?_
  refine gb_gd (fun hb => ?_)
  intro h
  cases h
  have hk : (0, zi 0, σ) = out := hk
  subst hk
  exact gj_ret (pc := 244) (t := .boolean) dL_law_244 rfl ⟨rfl, rfl⟩ (fun _ => z01E hb)
noncomputable def f_L_law_276 (L : Nat) (X : Nat → Int) (σ : zM) : Option zO :=
  zgd (z01 0) <|
  some (0, zi 0, σ)
theorem w_L_law_276 {g : zG} {lv : Nat} {out : zO} (σ : zM) {r : zO} (h : f_L_law_276 (zL g) (zXi g)  σ = some r) (hk : (fun o : zO => o = out) r) : Gj g ML_law (lv + 95) 276 [] [] σ out := by
  revert h
  unfold f_L_law_276
  refine zst_ (gj_iconst (pc := 276) dL_law_276 (by decide)) ?_
  refine gb_gd (fun hb => ?_)
  intro h
  cases h
  have hk : (0, zi 0, σ) = out := hk
  subst hk
  exact gj_ret (pc := 277) (t := .boolean) dL_law_277 rfl ⟨rfl, rfl⟩ (fun _ => z01E hb)
noncomputable def f_L_law_326 (L : Nat) (X : Nat → Int) (x1 x2 x3 x4 : Int) (σ : zM) : Option ((Int × zM) ⊕ zO) :=
  f_L_law_704 L X x1 x2 x3 x4 σ
theorem w_L_law_326 {g : zG} {lv : Nat} {out : zO} (x1 x2 x3 x4 : Int) (σ : zM) {r : ((Int × zM) ⊕ zO)} (h : f_L_law_326 (zL g) (zXi g) x1 x2 x3 x4 σ = some r) (hk : (zKL (fun s : Int × zM => Gj g ML_law (lv + 95) 23 [(0, zq (-20)), (1, zr x1), (2, zr x2), (3, zr x3), (4, zi s.1)] [] s.2 out) (fun o : zO => o = out)) r) : Gj g ML_law (lv + 95) 326 [(0, zq (-20)), (1, zr x1), (2, zr x2), (3, zr x3), (4, zi x4)] [] σ out := by
  revert h
  unfold f_L_law_326
  refine zst_ (gj_goto 704 (pc := 326) dL_law_326 (by decide)) ?_
  exact fun h => w_L_law_704 x1 x2 x3 x4 σ h hk
noncomputable def f_L_law_324 (L : Nat) (X : Nat → Int) (σ : zM) : Option zO :=
  zgd (z01 0) <|
  some (0, zi 0, σ)
theorem w_L_law_324 {g : zG} {lv : Nat} {out : zO} (σ : zM) {r : zO} (h : f_L_law_324 (zL g) (zXi g)  σ = some r) (hk : (fun o : zO => o = out) r) : Gj g ML_law (lv + 95) 324 [] [] σ out := by
  revert h
  unfold f_L_law_324
  refine zst_ (gj_iconst (pc := 324) dL_law_324 (by decide)) ?_
  refine gb_gd (fun hb => ?_)
  intro h
  cases h
  have hk : (0, zi 0, σ) = out := hk
  subst hk
  exact gj_ret (pc := 325) (t := .boolean) dL_law_325 rfl ⟨rfl, rfl⟩ (fun _ => z01E hb)
noncomputable def f_L_law_320 (L : Nat) (X : Nat → Int) (x1 x2 x3 x4 t0 t1 : Int) (σ : zM) : Option ((Int × zM) ⊕ zO) :=
  if (zlcmp t1 t0) = 0 then
    f_L_law_326 L X x1 x2 x3 x4 σ
  else
    (f_L_law_324 L X σ).map (fun r => (.inr r))
theorem w_L_law_320 {g : zG} {lv : Nat} {out : zO} (x1 x2 x3 x4 t0 t1 : Int) (σ : zM) {r : ((Int × zM) ⊕ zO)} (h : f_L_law_320 (zL g) (zXi g) x1 x2 x3 x4 t0 t1 σ = some r) (hk : (zKL (fun s : Int × zM => Gj g ML_law (lv + 95) 23 [(0, zq (-20)), (1, zr x1), (2, zr x2), (3, zr x3), (4, zi s.1)] [] s.2 out) (fun o : zO => o = out)) r) : Gj g ML_law (lv + 95) 320 [(0, zq (-20)), (1, zr x1), (2, zr x2), (3, zr x3), (4, zi x4)] [zj t0, zj t1] σ out := by
  revert h
  unfold f_L_law_320
  refine zst_ (gj_lcmp (pc := 320) dL_law_320) ?_
  refine gb_if (gj_if_eq 326 (pc := 321) dL_law_321 (by decide)) ?_ ?_
  · exact fun h => w_L_law_326 x1 x2 x3 x4 σ h hk
  · refine zst_ (gj_sub [] rfl) ?_
    intro h
    obtain ⟨r0, h0, rfl⟩ := zmE h
    exact w_L_law_324 σ h0 hk
noncomputable def f_L_law_300 (L : Nat) (X : Nat → Int) (σ : zM) : Option zO :=
  zgd (z01 0) <|
  some (0, zi 0, σ)
theorem w_L_law_300 {g : zG} {lv : Nat} {out : zO} (σ : zM) {r : zO} (h : f_L_law_300 (zL g) (zXi g)  σ = some r) (hk : (fun o : zO => o = out) r) : Gj g ML_law (lv + 95) 300 [] [] σ out := by
  revert h
  unfold f_L_law_300
  refine zst_ (gj_iconst (pc := 300) dL_law_300 (by decide)) ?_
  refine gb_gd (fun hb => ?_)
  intro h
  cases h
  have hk : (0, zi 0, σ) = out := hk
  subst hk
  exact gj_ret (pc := 301) (t := .boolean) dL_law_301 rfl ⟨rfl, rfl⟩ (fun _ => z01E hb)
noncomputable def f_L_law_340 (L : Nat) (X : Nat → Int) (σ : zM) : Option zO :=
  zgd (z01 0) <|
  some (0, zi 0, σ)
theorem w_L_law_340 {g : zG} {lv : Nat} {out : zO} (σ : zM) {r : zO} (h : f_L_law_340 (zL g) (zXi g)  σ = some r) (hk : (fun o : zO => o = out) r) : Gj g ML_law (lv + 95) 340 [] [] σ out := by
  revert h
  unfold f_L_law_340
  refine zst_ (gj_iconst (pc := 340) dL_law_340 (by decide)) ?_
  refine gb_gd (fun hb => ?_)
  intro h
  cases h
  have hk : (0, zi 0, σ) = out := hk
  subst hk
  exact gj_ret (pc := 341) (t := .boolean) dL_law_341 rfl ⟨rfl, rfl⟩ (fun _ => z01E hb)
noncomputable def f_L_law_353 (L : Nat) (X : Nat → Int) (σ : zM) : Option zO :=
  zgd (z01 0) <|
  some (0, zi 0, σ)
theorem w_L_law_353 {g : zG} {lv : Nat} {out : zO} (σ : zM) {r : zO} (h : f_L_law_353 (zL g) (zXi g)  σ = some r) (hk : (fun o : zO => o = out) r) : Gj g ML_law (lv + 95) 353 [] [] σ out := by
  revert h
  unfold f_L_law_353
  refine zst_ (gj_iconst (pc := 353) dL_law_353 (by decide)) ?_
  refine gb_gd (fun hb => ?_)
  intro h
  cases h
  have hk : (0, zi 0, σ) = out := hk
  subst hk
  exact gj_ret (pc := 354) (t := .boolean) dL_law_354 rfl ⟨rfl, rfl⟩ (fun _ => z01E hb)
noncomputable def f_L_law_420 (L : Nat) (X : Nat → Int) (x1 x2 x3 x4 : Int) (σ : zM) : Option ((Int × zM) ⊕ zO) :=
  f_L_law_704 L X x1 x2 x3 x4 σ
theorem w_L_law_420 {g : zG} {lv : Nat} {out : zO} (x1 x2 x3 x4 : Int) (σ : zM) {r : ((Int × zM) ⊕ zO)} (h : f_L_law_420 (zL g) (zXi g) x1 x2 x3 x4 σ = some r) (hk : (zKL (fun s : Int × zM => Gj g ML_law (lv + 95) 23 [(0, zq (-20)), (1, zr x1), (2, zr x2), (3, zr x3), (4, zi s.1)] [] s.2 out) (fun o : zO => o = out)) r) : Gj g ML_law (lv + 95) 420 [(0, zq (-20)), (1, zr x1), (2, zr x2), (3, zr x3), (4, zi x4)] [] σ out := by
  revert h
  unfold f_L_law_420
  refine zst_ (gj_goto 704 (pc := 420) dL_law_420 (by decide)) ?_
  exact fun h => w_L_law_704 x1 x2 x3 x4 σ h hk
noncomputable def f_L_law_418 (L : Nat) (X : Nat → Int) (σ : zM) : Option zO :=
  zgd (z01 0) <|
  some (0, zi 0, σ)
theorem w_L_law_418 {g : zG} {lv : Nat} {out : zO} (σ : zM) {r : zO} (h : f_L_law_418 (zL g) (zXi g)  σ = some r) (hk : (fun o : zO => o = out) r) : Gj g ML_law (lv + 95) 418 [] [] σ out := by
  revert h
  unfold f_L_law_418
  refine zst_ (gj_iconst (pc := 418) dL_law_418 (by decide)) ?_
  refine gb_gd (fun hb => ?_)
  intro h
  cases h
  have hk : (0, zi 0, σ) = out := hk
  subst hk
  exact gj_ret (pc := 419) (t := .boolean) dL_law_419 rfl ⟨rfl, rfl⟩ (fun _ => z01E hb)
noncomputable def f_L_law_401 (L : Nat) (X : Nat → Int) (σ : zM) : Option zO :=
  zgd (z01 0) <|
  some (0, zi 0, σ)
theorem w_L_law_401 {g : zG} {lv : Nat} {out : zO} (σ : zM) {r : zO} (h : f_L_law_401 (zL g) (zXi g)  σ = some r) (hk : (fun o : zO => o = out) r) : Gj g ML_law (lv + 95) 401 [] [] σ out := by
  revert h
  unfold f_L_law_401
  refine zst_ (gj_iconst (pc := 401) dL_law_401 (by decide)) ?_
  refine gb_gd (fun hb => ?_)
  intro h
  cases h
  have hk : (0, zi 0, σ) = out := hk
  subst hk
  exact gj_ret (pc := 402) (t := .boolean) dL_law_402 rfl ⟨rfl, rfl⟩ (fun _ => z01E hb)
noncomputable def f_L_law_442 (L : Nat) (X : Nat → Int) (σ : zM) : Option zO :=
  zgd (z01 0) <|
  some (0, zi 0, σ)
theorem w_L_law_442 {g : zG} {lv : Nat} {out : zO} (σ : zM) {r : zO} (h : f_L_law_442 (zL g) (zXi g)  σ = some r) (hk : (fun o : zO => o = out) r) : Gj g ML_law (lv + 95) 442 [] [] σ out := by
  revert h
  unfold f_L_law_442
  refine zst_ (gj_iconst (pc := 442) dL_law_442 (by decide)) ?_
  refine gb_gd (fun hb => ?_)
  intro h
  cases h
  have hk : (0, zi 0, σ) = out := hk
  subst hk
  exact gj_ret (pc := 443) (t := .boolean) dL_law_443 rfl ⟨rfl, rfl⟩ (fun _ => z01E hb)
noncomputable def f_L_law_458 (L : Nat) (X : Nat → Int) (σ : zM) : Option zO :=
  zgd (z01 0) <|
  some (0, zi 0, σ)
theorem w_L_law_458 {g : zG} {lv : Nat} {out : zO} (σ : zM) {r : zO} (h : f_L_law_458 (zL g) (zXi g)  σ = some r) (hk : (fun o : zO => o = out) r) : Gj g ML_law (lv + 95) 458 [] [] σ out := by
  revert h
  unfold f_L_law_458
  refine zst_ (gj_iconst (pc := 458) dL_law_458 (by decide)) ?_
  refine gb_gd (fun hb => ?_)
  intro h
  cases h
  have hk : (0, zi 0, σ) = out := hk
  subst hk
  exact gj_ret (pc := 459) (t := .boolean) dL_law_459 rfl ⟨rfl, rfl⟩ (fun _ => z01E hb)
noncomputable def f_L_law_513 (L : Nat) (X : Nat → Int) (x1 x2 x3 x4 : Int) (σ : zM) : Option ((Int × zM) ⊕ zO) :=
  f_L_law_704 L X x1 x2 x3 x4 σ
theorem w_L_law_513 {g : zG} {lv : Nat} {out : zO} (x1 x2 x3 x4 : Int) (σ : zM) {r : ((Int × zM) ⊕ zO)} (h : f_L_law_513 (zL g) (zXi g) x1 x2 x3 x4 σ = some r) (hk : (zKL (fun s : Int × zM => Gj g ML_law (lv + 95) 23 [(0, zq (-20)), (1, zr x1), (2, zr x2), (3, zr x3), (4, zi s.1)] [] s.2 out) (fun o : zO => o = out)) r) : Gj g ML_law (lv + 95) 513 [(0, zq (-20)), (1, zr x1), (2, zr x2), (3, zr x3), (4, zi x4)] [] σ out := by
  revert h
  unfold f_L_law_513
  refine zst_ (gj_goto 704 (pc := 513) dL_law_513 (by decide)) ?_
  exact fun h => w_L_law_704 x1 x2 x3 x4 σ h hk
noncomputable def f_L_law_511 (L : Nat) (X : Nat → Int) (σ : zM) : Option zO :=
  zgd (z01 0) <|
  some (0, zi 0, σ)
theorem w_L_law_511 {g : zG} {lv : Nat} {out : zO} (σ : zM) {r : zO} (h : f_L_law_511 (zL g) (zXi g)  σ = some r) (hk : (fun o : zO => o = out) r) : Gj g ML_law (lv + 95) 511 [] [] σ out := by
  revert h
  unfold f_L_law_511
  refine zst_ (gj_iconst (pc := 511) dL_law_511 (by decide)) ?_
  refine gb_gd (fun hb => ?_)
  intro h
  cases h
  have hk : (0, zi 0, σ) = out := hk
  subst hk
  exact gj_ret (pc := 512) (t := .boolean) dL_law_512 rfl ⟨rfl, rfl⟩ (fun _ => z01E hb)
noncomputable def f_L_law_494 (L : Nat) (X : Nat → Int) (σ : zM) : Option zO :=
  zgd (z01 0) <|
  some (0, zi 0, σ)
theorem w_L_law_494 {g : zG} {lv : Nat} {out : zO} (σ : zM) {r : zO} (h : f_L_law_494 (zL g) (zXi g)  σ = some r) (hk : (fun o : zO => o = out) r) : Gj g ML_law (lv + 95) 494 [] [] σ out := by
  revert h
  unfold f_L_law_494
  refine zst_ (gj_iconst (pc := 494) dL_law_494 (by decide)) ?_
  refine gb_gd (fun hb => ?_)
  intro h
  cases h
  have hk : (0, zi 0, σ) = out := hk
  subst hk
  exact gj_ret (pc := 495) (t := .boolean) dL_law_495 rfl ⟨rfl, rfl⟩ (fun _ => z01E hb)
noncomputable def f_L_law_539 (L : Nat) (X : Nat → Int) (σ : zM) : Option zO :=
  zgd (z01 0) <|
  some (0, zi 0, σ)
theorem w_L_law_539 {g : zG} {lv : Nat} {out : zO} (σ : zM) {r : zO} (h : f_L_law_539 (zL g) (zXi g)  σ = some r) (hk : (fun o : zO => o = out) r) : Gj g ML_law (lv + 95) 539 [] [] σ out := by
  revert h
  unfold f_L_law_539
  refine zst_ (gj_iconst (pc := 539) dL_law_539 (by decide)) ?_
  refine gb_gd (fun hb => ?_)
  intro h
  cases h
  have hk : (0, zi 0, σ) = out := hk
  subst hk
  exact gj_ret (pc := 540) (t := .boolean) dL_law_540 rfl ⟨rfl, rfl⟩ (fun _ => z01E hb)
noncomputable def f_L_law_576 (L : Nat) (X : Nat → Int) (σ : zM) : Option zO :=
  zgd (z01 0) <|
  some (0, zi 0, σ)
theorem w_L_law_576 {g : zG} {lv : Nat} {out : zO} (σ : zM) {r : zO} (h : f_L_law_576 (zL g) (zXi g)  σ = some r) (hk : (fun o : zO => o = out) r) : Gj g ML_law (lv + 95) 576 [] [] σ out := by
  revert h
  unfold f_L_law_576
  refine zst_ (gj_iconst (pc := 576) dL_law_576 (by decide)) ?_
  refine gb_gd (fun hb => ?_)
  intro h
  cases h
  have hk : (0, zi 0, σ) = out := hk
  subst hk
  exact gj_ret (pc := 577) (t := .boolean) dL_law_577 rfl ⟨rfl, rfl⟩ (fun _ => z01E hb)
noncomputable def f_L_law_601 (L : Nat) (X : Nat → Int) (σ : zM) : Option zO :=
  zgd (z01 0) <|
  some (0, zi 0, σ)
theorem w_L_law_601 {g : zG} {lv : Nat} {out : zO} (σ : zM) {r : zO} (h : f_L_law_601 (zL g) (zXi g)  σ = some r) (hk : (fun o : zO => o = out) r) : Gj g ML_law (lv + 95) 601 [] [] σ out := by
  revert h
  unfold f_L_law_601
  refine zst_ (gj_iconst (pc := 601) dL_law_601 (by decide)) ?_
  refine gb_gd (fun hb => ?_)
  intro h
  cases h
  have hk : (0, zi 0, σ) = out := hk
  subst hk
  exact gj_ret (pc := 602) (t := .boolean) dL_law_602 rfl ⟨rfl, rfl⟩ (fun _ => z01E hb)
noncomputable def f_L_law_614 (L : Nat) (X : Nat → Int) (σ : zM) : Option zO :=
  zgd (z01 0) <|
  some (0, zi 0, σ)
theorem w_L_law_614 {g : zG} {lv : Nat} {out : zO} (σ : zM) {r : zO} (h : f_L_law_614 (zL g) (zXi g)  σ = some r) (hk : (fun o : zO => o = out) r) : Gj g ML_law (lv + 95) 614 [] [] σ out := by
  revert h
  unfold f_L_law_614
  refine zst_ (gj_iconst (pc := 614) dL_law_614 (by decide)) ?_
  refine gb_gd (fun hb => ?_)
  intro h
  cases h
  have hk : (0, zi 0, σ) = out := hk
  subst hk
  exact gj_ret (pc := 615) (t := .boolean) dL_law_615 rfl ⟨rfl, rfl⟩ (fun _ => z01E hb)
noncomputable def f_L_law_676 (L : Nat) (X : Nat → Int) (x1 x2 x3 x4 : Int) (σ : zM) : Option ((Int × zM) ⊕ zO) :=
  f_L_law_704 L X x1 x2 x3 x4 σ
theorem w_L_law_676 {g : zG} {lv : Nat} {out : zO} (x1 x2 x3 x4 : Int) (σ : zM) {r : ((Int × zM) ⊕ zO)} (h : f_L_law_676 (zL g) (zXi g) x1 x2 x3 x4 σ = some r) (hk : (zKL (fun s : Int × zM => Gj g ML_law (lv + 95) 23 [(0, zq (-20)), (1, zr x1), (2, zr x2), (3, zr x3), (4, zi s.1)] [] s.2 out) (fun o : zO => o = out)) r) : Gj g ML_law (lv + 95) 676 [(0, zq (-20)), (1, zr x1), (2, zr x2), (3, zr x3), (4, zi x4)] [] σ out := by
  revert h
  unfold f_L_law_676
  refine zst_ (gj_goto 704 (pc := 676) dL_law_676 (by decide)) ?_
  exact fun h => w_L_law_704 x1 x2 x3 x4 σ h hk
noncomputable def f_L_law_674 (L : Nat) (X : Nat → Int) (σ : zM) : Option zO :=
  zgd (z01 0) <|
  some (0, zi 0, σ)
theorem w_L_law_674 {g : zG} {lv : Nat} {out : zO} (σ : zM) {r : zO} (h : f_L_law_674 (zL g) (zXi g)  σ = some r) (hk : (fun o : zO => o = out) r) : Gj g ML_law (lv + 95) 674 [] [] σ out := by
  revert h
  unfold f_L_law_674
  refine zst_ (gj_iconst (pc := 674) dL_law_674 (by decide)) ?_
  refine gb_gd (fun hb => ?_)
  intro h
  cases h
  have hk : (0, zi 0, σ) = out := hk
  subst hk
  exact gj_ret (pc := 675) (t := .boolean) dL_law_675 rfl ⟨rfl, rfl⟩ (fun _ => z01E hb)
noncomputable def f_L_law_670 (L : Nat) (X : Nat → Int) (x1 x2 x3 x4 t0 t1 : Int) (σ : zM) : Option ((Int × zM) ⊕ zO) :=
  if (zlcmp t1 t0) = 0 then
    f_L_law_676 L X x1 x2 x3 x4 σ
  else
    (f_L_law_674 L X σ).map (fun r => (.inr r))
theorem w_L_law_670 {g : zG} {lv : Nat} {out : zO} (x1 x2 x3 x4 t0 t1 : Int) (σ : zM) {r : ((Int × zM) ⊕ zO)} (h : f_L_law_670 (zL g) (zXi g) x1 x2 x3 x4 t0 t1 σ = some r) (hk : (zKL (fun s : Int × zM => Gj g ML_law (lv + 95) 23 [(0, zq (-20)), (1, zr x1), (2, zr x2), (3, zr x3), (4, zi s.1)] [] s.2 out) (fun o : zO => o = out)) r) : Gj g ML_law (lv + 95) 670 [(0, zq (-20)), (1, zr x1), (2, zr x2), (3, zr x3), (4, zi x4)] [zj t0, zj t1] σ out := by
  revert h
  unfold f_L_law_670
  refine zst_ (gj_lcmp (pc := 670) dL_law_670) ?_
  refine gb_if (gj_if_eq 676 (pc := 671) dL_law_671 (by decide)) ?_ ?_
  · exact fun h => w_L_law_676 x1 x2 x3 x4 σ h hk
  · refine zst_ (gj_sub [] rfl) ?_
    intro h
    obtain ⟨r0, h0, rfl⟩ := zmE h
    exact w_L_law_674 σ h0 hk
noncomputable def f_L_law_650 (L : Nat) (X : Nat → Int) (σ : zM) : Option zO :=
  zgd (z01 0) <|
  some (0, zi 0, σ)
theorem w_L_law_650 {g : zG} {lv : Nat} {out : zO} (σ : zM) {r : zO} (h : f_L_law_650 (zL g) (zXi g)  σ = some r) (hk : (fun o : zO => o = out) r) : Gj g ML_law (lv + 95) 650 [] [] σ out := by
  revert h
  unfold f_L_law_650
  refine zst_ (gj_iconst (pc := 650) dL_law_650 (by decide)) ?_
  refine gb_gd (fun hb => ?_)
  intro h
  cases h
  have hk : (0, zi 0, σ) = out := hk
  subst hk
  exact gj_ret (pc := 651) (t := .boolean) dL_law_651 rfl ⟨rfl, rfl⟩ (fun _ => z01E hb)
noncomputable def f_L_law_702 (L : Nat) (X : Nat → Int) (σ : zM) : Option zO :=
  zgd (z01 0) <|
  some (0, zi 0, σ)
theorem w_L_law_702 {g : zG} {lv : Nat} {out : zO} (σ : zM) {r : zO} (h : f_L_law_702 (zL g) (zXi g)  σ = some r) (hk : (fun o : zO => o = out) r) : Gj g ML_law (lv + 95) 702 [] [] σ out := by
  revert h
  unfold f_L_law_702
  refine zst_ (gj_iconst (pc := 702) dL_law_702 (by decide)) ?_
  refine gb_gd (fun hb => ?_)
  intro h
  cases h
  have hk : (0, zi 0, σ) = out := hk
  subst hk
  exact gj_ret (pc := 703) (t := .boolean) dL_law_703 rfl ⟨rfl, rfl⟩ (fun _ => z01E hb)
noncomputable def f_L_law_23_b (L : Nat) (X : Nat → Int) (x1 x2 x3 x4 : Int) (σ : zM) : Option ((Int × zM) ⊕ zO) :=
  zlet (↑L : Int) fun v1 =>
  if (zsub v1 3) < x4 then
    (f_L_law_710 L X σ).map (fun r => (.inr r))
  else
    (zsx L X x4).bind fun v2 =>
    zlet ((zand v2 31)) fun y3 =>
    if y3 = 0 then
      (zsx L X (zadd x4 1)).bind fun v4 =>
      (zsx L X (zadd x4 2)).bind fun v5 =>
      zgd (zis σ 2 x1) <|
      zci (f_X1_write x1 (jor (jshl v4 32) (jand v5 4294967295)) σ) fun v6 σ7 =>
      (zsx L X (zadd x4 1)).bind fun v8 =>
      (zsx L X (zadd x4 2)).bind fun v9 =>
      zgd (zis σ7 10 x2) <|
      zci (f_X9_write x2 (jor (jshl v8 32) (jand v9 4294967295)) σ7) fun v10 σ11 =>
      if v6 = v10 then
        f_L_law_704 L X x1 x2 x3 x4 σ11
      else
        (f_L_law_175 L X σ11).map (fun r => (.inr r))
    else if y3 = 1 then
      zciT (f_X0_model x1 x3 σ) (fun n a σ13 => some (.inr (n + 1, zr a, σ13))) fun v12 σ13 =>
      zgd (zis σ13 10 x2) <|
      zci (f_X9_model x2 σ13) fun v14 σ15 =>
      zgd (zis σ15 10 x2) <|
      zci (f_X9_thrown x2 σ15) fun v16 σ17 =>
      if v16 = v12 then
        if v12 ≠ 0 then
          f_L_law_218 L X x1 x2 x3 x4 σ17
        else
          (zga σ17 102 x3 0).bind fun v18 =>
          if (zlcmp v18 v14) = 0 then
            f_L_law_218 L X x1 x2 x3 x4 σ17
          else
            (f_L_law_216 L X σ17).map (fun r => (.inr r))
      else
        (f_L_law_199 L X σ17).map (fun r => (.inr r))
    else if y3 = 2 then
      zciT (f_X0_formula x1 x3 σ) (fun n a σ20 => some (.inr (n + 1, zr a, σ20))) fun v19 σ20 =>
      zgd (zis σ20 10 x2) <|
      zci (f_X9_formula x2 σ20) fun v21 σ22 =>
      zgd (zis σ22 10 x2) <|
      zci (f_X9_thrown x2 σ22) fun v23 σ24 =>
      if v23 = v19 then
        if v19 ≠ 0 then
          f_L_law_262 L X x1 x2 x3 x4 σ24
        else
          (zga σ24 102 x3 0).bind fun v25 =>
          if (zlcmp v25 v21) = 0 then
            f_L_law_262 L X x1 x2 x3 x4 σ24
          else
            (f_L_law_260 L X σ24).map (fun r => (.inr r))
      else
        (f_L_law_243 L X σ24).map (fun r => (.inr r))
    else if y3 = 3 then
      zgd (zis σ 2 x1) <|
      zci (f_X1_place x1 σ) fun v26 σ27 =>
      zgd (zis σ27 10 x2) <|
      zci (f_X9_place x2 σ27) fun v28 σ29 =>
      if v26 = v28 then
        f_L_law_704 L X x1 x2 x3 x4 σ29
      else
        (f_L_law_276 L X σ29).map (fun r => (.inr r))
    else if y3 = 4 then
      zciT (f_X0_verify x1 x3 σ) (fun n a σ31 => some (.inr (n + 1, zr a, σ31))) fun v30 σ31 =>
      zgd (zis σ31 10 x2) <|
      zci (f_X9_verify x2 σ31) fun v32 σ33 =>
      zgd (zis σ33 10 x2) <|
      zci (f_X9_thrown x2 σ33) fun v34 σ35 =>
      if v34 = v30 then
        if v30 ≠ 0 then
          f_L_law_326 L X x1 x2 x3 x4 σ35
        else
          (zga σ35 102 x3 0).bind fun v36 =>
          if v32 = 0 then
            f_L_law_320 L X x1 x2 x3 x4 0 v36 σ35
          else
            f_L_law_320 L X x1 x2 x3 x4 1 v36 σ35
      else
        (f_L_law_300 L X σ35).map (fun r => (.inr r))
    else if y3 = 5 then
      zgd (zis σ 2 x1) <|
      zci (f_X1_stem x1 σ) fun v37 σ38 =>
      zgd (zis σ38 10 x2) <|
      zci (f_X9_stem x2 σ38) fun v39 σ40 =>
      if v37 = v39 then
        f_L_law_704 L X x1 x2 x3 x4 σ40
      else
        (f_L_law_340 L X σ40).map (fun r => (.inr r))
    else if y3 = 6 then
      zgd (zis σ 2 x1) <|
      zci (f_X1_cycle x1 σ) fun v41 σ42 =>
      zgd (zis σ42 10 x2) <|
      zci (f_X9_cycle x2 σ42) fun v43 σ44 =>
      if v41 = v43 then
        f_L_law_704 L X x1 x2 x3 x4 σ44
      else
        (f_L_law_353 L X σ44).map (fun r => (.inr r))
    else if y3 = 7 then
      (zsx L X (zadd x4 1)).bind fun v45 =>
      (zsx L X (zadd x4 2)).bind fun v46 =>
      zciT (f_X0_lasso x1 v45 v46 x3 σ) (fun n a σ48 => some (.inr (n + 1, zr a, σ48))) fun v47 σ48 =>
      (zsx L X (zadd x4 1)).bind fun v49 =>
      (zsx L X (zadd x4 2)).bind fun v50 =>
      zgd (zis σ48 10 x2) <|
      zci (f_X9_lasso x2 v49 v50 σ48) fun v51 σ52 =>
      zgd (zis σ52 10 x2) <|
      zci (f_X9_thrown x2 σ52) fun v53 σ54 =>
      if v53 = v47 then
        if v47 ≠ 0 then
          f_L_law_420 L X x1 x2 x3 x4 σ54
        else
          (zga σ54 102 x3 0).bind fun v55 =>
          if (zlcmp v55 v51) = 0 then
            f_L_law_420 L X x1 x2 x3 x4 σ54
          else
            (f_L_law_418 L X σ54).map (fun r => (.inr r))
      else
        (f_L_law_401 L X σ54).map (fun r => (.inr r))
    else if y3 = 8 then
      zciT (f_X0_walk x1 σ) (fun n a σ57 => some (.inr (n + 1, zr a, σ57))) fun v56 σ57 =>
      zgd (zis σ57 10 x2) <|
      zcv (f_X9_walk x2 σ57) fun σ58 =>
      zgd (zis σ58 10 x2) <|
      zci (f_X9_thrown x2 σ58) fun v59 σ60 =>
      if v59 = v56 then
        f_L_law_704 L X x1 x2 x3 x4 σ60
      else
        (f_L_law_442 L X σ60).map (fun r => (.inr r))
    else if y3 = 9 then
      zgd (zis σ 2 x1) <|
      zci (f_X1_steps x1 σ) fun v61 σ62 =>
      zgd (zis σ62 10 x2) <|
      zci (f_X9_steps x2 σ62) fun v63 σ64 =>
      if v61 = v63 then
        f_L_law_704 L X x1 x2 x3 x4 σ64
      else
        (f_L_law_458 L X σ64).map (fun r => (.inr r))
    else if y3 = 10 then
      (zsx L X (zadd x4 1)).bind fun v65 =>
      zciT (f_X0_go x1 v65 x3 σ) (fun n a σ67 => some (.inr (n + 1, zr a, σ67))) fun v66 σ67 =>
      (zsx L X (zadd x4 1)).bind fun v68 =>
      zgd (zis σ67 10 x2) <|
      zci (f_X9_go x2 v68 σ67) fun v69 σ70 =>
      zgd (zis σ70 10 x2) <|
      zci (f_X9_thrown x2 σ70) fun v71 σ72 =>
      if v71 = v66 then
        if v66 ≠ 0 then
          f_L_law_513 L X x1 x2 x3 x4 σ72
        else
          (zga σ72 102 x3 0).bind fun v73 =>
          if (zlcmp v73 v69) = 0 then
            f_L_law_513 L X x1 x2 x3 x4 σ72
          else
            (f_L_law_511 L X σ72).map (fun r => (.inr r))
      else
        (f_L_law_494 L X σ72).map (fun r => (.inr r))
    else if y3 = 11 then
      (zsx L X (zadd x4 1)).bind fun v74 =>
      zgd (zis σ 2 x1) <|
      zci (f_X1_value x1 v74 σ) fun v75 σ76 =>
      (zsx L X (zadd x4 1)).bind fun v77 =>
      zgd (zis σ76 10 x2) <|
      zci (f_X9_value x2 v77 σ76) fun v78 σ79 =>
      if v75 = v78 then
        f_L_law_704 L X x1 x2 x3 x4 σ79
      else
        (f_L_law_539 L X σ79).map (fun r => (.inr r))
    else if y3 = 12 then
      (zsx L X (zadd x4 1)).bind fun v80 =>
      (zsx L X (zadd x4 2)).bind fun v81 =>
      zgd (zis σ 2 x1) <|
      zci (f_X1_message x1 v80 v81 σ) fun v82 σ83 =>
      (zsx L X (zadd x4 1)).bind fun v84 =>
      (zsx L X (zadd x4 2)).bind fun v85 =>
      zgd (zis σ83 10 x2) <|
      zci (f_X9_message x2 v84 v85 σ83) fun v86 σ87 =>
      if v82 = v86 then
        f_L_law_704 L X x1 x2 x3 x4 σ87
      else
        (f_L_law_576 L X σ87).map (fun r => (.inr r))
    else if y3 = 13 then
      (zsx L X (zadd x4 1)).bind fun v88 =>
      zgd (zis σ 2 x1) <|
      zci (f_X1_point x1 v88 σ) fun v89 σ90 =>
      (zsx L X (zadd x4 1)).bind fun v91 =>
      zgd (zis σ90 10 x2) <|
      zci (f_X9_point x2 v91 σ90) fun v92 σ93 =>
      if v89 = v92 then
        f_L_law_704 L X x1 x2 x3 x4 σ93
      else
        (f_L_law_601 L X σ93).map (fun r => (.inr r))
    else if y3 = 14 then
      zgd (zis σ 2 x1) <|
      zci (f_X1_holder x1 σ) fun v94 σ95 =>
      zgd (zis σ95 10 x2) <|
      zci (f_X9_holder x2 σ95) fun v96 σ97 =>
      if v94 = v96 then
        f_L_law_704 L X x1 x2 x3 x4 σ97
      else
        (f_L_law_614 L X σ97).map (fun r => (.inr r))
    else if y3 = 15 then
      (zsx L X (zadd x4 1)).bind fun v98 =>
      zciT (f_X0_truth x1 v98 x3 σ) (fun n a σ100 => some (.inr (n + 1, zr a, σ100))) fun v99 σ100 =>
      (zsx L X (zadd x4 1)).bind fun v101 =>
      zgd (zis σ100 10 x2) <|
      zci (f_X9_truth x2 v101 σ100) fun v102 σ103 =>
      zgd (zis σ103 10 x2) <|
      zci (f_X9_thrown x2 σ103) fun v104 σ105 =>
      if v104 = v99 then
        if v99 ≠ 0 then
          f_L_law_676 L X x1 x2 x3 x4 σ105
        else
          (zga σ105 102 x3 0).bind fun v106 =>
          if v102 = 0 then
            f_L_law_670 L X x1 x2 x3 x4 0 v106 σ105
          else
            f_L_law_670 L X x1 x2 x3 x4 1 v106 σ105
      else
        (f_L_law_650 L X σ105).map (fun r => (.inr r))
    else if y3 = 16 then
      (zsx L X (zadd x4 1)).bind fun v107 =>
      zgd (zis σ 2 x1) <|
      zci (f_X1_count x1 v107 σ) fun v108 σ109 =>
      (zsx L X (zadd x4 1)).bind fun v110 =>
      zgd (zis σ109 10 x2) <|
      zci (f_X9_count x2 v110 σ109) fun v111 σ112 =>
      if v108 = v111 then
        f_L_law_704 L X x1 x2 x3 x4 σ112
      else
        (f_L_law_702 L X σ112).map (fun r => (.inr r))
    else 
      f_L_law_704 L X x1 x2 x3 x4 σ
noncomputable def f_L_law_23 (L : Nat) (X : Nat → Int) (x1 x2 x3 x4 : Int) (σ : zM) : Option zO :=
  zloop (fun s : Int × zM => f_L_law_23_b L X x1 x2 x3 s.1 s.2) (x4, σ)
theorem w_L_law_23_b {g : zG} {lv : Nat} {out : zO} (x1 x2 x3 x4 : Int) (σ : zM) {r : ((Int × zM) ⊕ zO)} (h : f_L_law_23_b (zL g) (zXi g) x1 x2 x3 x4 σ = some r) (hk : (zKL (fun s : Int × zM => Gj g ML_law (lv + 95) 23 [(0, zq (-20)), (1, zr x1), (2, zr x2), (3, zr x3), (4, zi s.1)] [] s.2 out) (fun o : zO => o = out)) r) : Gj g ML_law (lv + 95) 23 [(0, zq (-20)), (1, zr x1), (2, zr x2), (3, zr x3), (4, zi x4)] [] σ out := by
  revert h
  unfold f_L_law_23_b
  refine zst_ (gj_iload 4 (pc := 23) dL_law_23 rfl) ?_
  refine zst_ (gj_aloadQ_n 0 (pc := 25) dL_law_25 rfl) ?_
  refine zst_ (gj_slen (pc := 26) dL_law_26) ?_
  refine gb_let (fun v1 => ?_)
  refine zst_ (gj_iconst (pc := 27) dL_law_27 (by decide)) ?_
  refine zst_ (gj_isub (pc := 28) dL_law_28) ?_
  refine gb_if (gj_icmp_gt 710 (pc := 29) dL_law_29 (by decide)) ?_ ?_
  · refine zst_ (gj_sub [] rfl) ?_
    intro h
    obtain ⟨r0, h0, rfl⟩ := zmE h
    exact w_L_law_710 σ h0 hk
  · refine zst_ (gj_aloadQ_n 0 (pc := 32) dL_law_32 rfl) ?_
    refine zst_ (gj_iload 4 (pc := 33) dL_law_33 rfl) ?_
    refine gb_sld (pc := 35) dL_law_35 (fun v2 => ?_)
    refine zst_ (gj_bipush (pc := 36) dL_law_36 ⟨rfl, by decide⟩) ?_
    refine zst_ (gj_iand (pc := 38) dL_law_38) ?_
    refine gb_let (fun y3 => ?_)
    refine gb_ite (fun hc0 => ?_) (fun hc0 => ?_)
    · refine zst_ (fun kk => gj_table (pc := 39) dL_law_39 704 (by decide) (fun hx => absurd hx (by omega)) (fun _ _ => ⟨81, 120, by rw [hc0]; rfl, by decide, kk⟩)) ?_
      refine zst_ (gj_aload_n 1 (pc := 120) dL_law_120 rfl) ?_
      refine zst_ (gj_aloadQ_n 0 (pc := 121) dL_law_121 rfl) ?_
      refine zst_ (gj_iload 4 (pc := 122) dL_law_122 rfl) ?_
      refine zst_ (gj_iconst (pc := 124) dL_law_124 (by decide)) ?_
      refine zst_ (gj_iadd (pc := 125) dL_law_125) ?_
      refine gb_sld (pc := 126) dL_law_126 (fun v4 => ?_)
      refine zst_ (gj_i2l (pc := 127) dL_law_127) ?_
      refine zst_ (gj_bipush (pc := 128) dL_law_128 ⟨rfl, by decide⟩) ?_
      refine zst_ (gj_lshl (pc := 130) dL_law_130) ?_
      refine zst_ (gj_aloadQ_n 0 (pc := 131) dL_law_131 rfl) ?_
      refine zst_ (gj_iload 4 (pc := 132) dL_law_132 rfl) ?_
      refine zst_ (gj_iconst (pc := 134) dL_law_134 (by decide)) ?_
      refine zst_ (gj_iadd (pc := 135) dL_law_135) ?_
      refine gb_sld (pc := 136) dL_law_136 (fun v5 => ?_)
      refine zst_ (gj_i2l (pc := 137) dL_law_137) ?_
      refine zst_ (gj_ldc2 (pc := 138) (a := 4294967295) dL_law_138 q2445 (by decide +kernel)) ?_
      refine zst_ (gj_land (pc := 141) dL_law_141) ?_
      refine zst_ (gj_lor (pc := 142) dL_law_142) ?_
      refine gb_gd (fun hb => ?_)
      refine gb_callI (pc := 143) (as := [zr x1, zj (jor (jshl v4 32) (jand v5 4294967295))]) (rest := []) (zCl.of (zLk_V (M := ML_law) (ci := 1) (r := (RX1, TX1, 12)) plX1_write.1 rfl rfl (zisE hb).1 (zisE hb).2 dL_law_143 q878 q879 q880 q881) plX1_write (Nat.le_of_ble_eq_true rfl) (fun h => c_X1_write h)) (fun v6 σ7 => ?_)
      refine zst_ (gj_aload_n 2 (pc := 146) dL_law_146 rfl) ?_
      refine zst_ (gj_aloadQ_n 0 (pc := 147) dL_law_147 rfl) ?_
      refine zst_ (gj_iload 4 (pc := 148) dL_law_148 rfl) ?_
      refine zst_ (gj_iconst (pc := 150) dL_law_150 (by decide)) ?_
      refine zst_ (gj_iadd (pc := 151) dL_law_151) ?_
      refine gb_sld (pc := 152) dL_law_152 (fun v8 => ?_)
      refine zst_ (gj_i2l (pc := 153) dL_law_153) ?_
      refine zst_ (gj_bipush (pc := 154) dL_law_154 ⟨rfl, by decide⟩) ?_
      refine zst_ (gj_lshl (pc := 156) dL_law_156) ?_
      refine zst_ (gj_aloadQ_n 0 (pc := 157) dL_law_157 rfl) ?_
      refine zst_ (gj_iload 4 (pc := 158) dL_law_158 rfl) ?_
      refine zst_ (gj_iconst (pc := 160) dL_law_160 (by decide)) ?_
      refine zst_ (gj_iadd (pc := 161) dL_law_161) ?_
      refine gb_sld (pc := 162) dL_law_162 (fun v9 => ?_)
      refine zst_ (gj_i2l (pc := 163) dL_law_163) ?_
      refine zst_ (gj_ldc2 (pc := 164) (a := 4294967295) dL_law_164 q2445 (by decide +kernel)) ?_
      refine zst_ (gj_land (pc := 167) dL_law_167) ?_
      refine zst_ (gj_lor (pc := 168) dL_law_168) ?_
      refine gb_gd (fun hb => ?_)
      refine gb_callI (pc := 169) (as := [zr x2, zj (jor (jshl v8 32) (jand v9 4294967295))]) (rest := [zi v6]) (zCl.of (zLk_V (M := ML_law) (ci := 9) (r := (RX9, TX9, 84)) plX9_write.1 rfl rfl (zisE hb).1 (zisE hb).2 dL_law_169 q2139 q2140 q2141 q2142) plX9_write (Nat.le_of_ble_eq_true rfl) (fun h => c_X9_write h)) (fun v10 σ11 => ?_)
      refine gb_if (gj_icmp_eq 704 (pc := 172) dL_law_172 (by decide)) ?_ ?_
      · exact fun h => w_L_law_704 x1 x2 x3 x4 σ11 h hk
      · refine zst_ (gj_sub [] rfl) ?_
        intro h
        obtain ⟨r0, h0, rfl⟩ := zmE h
        exact w_L_law_175 σ11 h0 hk
    · refine gb_ite (fun hc1 => ?_) (fun hc1 => ?_)
      · refine zst_ (fun kk => gj_table (pc := 39) dL_law_39 704 (by decide) (fun hx => absurd hx (by omega)) (fun _ _ => ⟨138, 177, by rw [hc1]; rfl, by decide, kk⟩)) ?_
        refine zst_ (gj_aload_n 1 (pc := 177) dL_law_177 rfl) ?_
        refine zst_ (gj_aload_n 3 (pc := 178) dL_law_178 rfl) ?_
        refine gb_callIT (pc := 179) (as := [zr x1, zr x3]) (rest := []) (zCl.of (zLk_S (M := ML_law) plX0_model.1 rfl dL_law_179 q953 q954 q100 q955) plX0_model (Nat.le_of_ble_eq_true rfl) (fun h => c_X0_model h)) (fun n a s0 h => by cases h; exact Or.inl ⟨rfl, hk⟩) (fun v12 σ13 => ?_)
        refine zst_ (gj_istore (pc := 182) (ls' := [(5, zi v12), (0, zq (-20)), (1, zr x1), (2, zr x2), (3, zr x3), (4, zi x4)]) dL_law_182 (by decide) rfl) ?_
        refine zst_ (gj_aload_n 3 (pc := 184) dL_law_184 rfl) ?_
        refine gb_gd (fun hb => ?_)
        refine gb_callI (pc := 185) (as := [zr x2]) (rest := []) (zCl.of (zLk_V (M := ML_law) (ci := 9) (r := (RX9, TX9, 84)) plX9_model.1 rfl rfl (zisE hb).1 (zisE hb).2 dL_law_185 q2146 q2147 q2148 q2149) plX9_model (Nat.le_of_ble_eq_true rfl) (fun h => c_X9_model h)) (fun v14 σ15 => ?_)
        refine zst_ (gj_istore (pc := 188) (ls' := [(6, zi v14), (5, zi v12), (0, zq (-20)), (1, zr x1), (2, zr x2), (3, zr x3), (4, zi x4)]) dL_law_188 (by decide) rfl) ?_
        refine zst_ (gj_aload_n 4 (pc := 190) dL_law_190 rfl) ?_
        refine gb_gd (fun hb => ?_)
        refine gb_callI (pc := 191) (as := [zr x2]) (rest := []) (zCl.of (zLk_V (M := ML_law) (ci := 9) (r := (RX9, TX9, 84)) plX9_thrown.1 rfl rfl (zisE hb).1 (zisE hb).2 dL_law_191 q2135 q2136 q2137 q2138) plX9_thrown (Nat.le_of_ble_eq_true rfl) (fun h => c_X9_thrown h)) (fun v16 σ17 => ?_)
        refine zst_ (gj_iload 1 (pc := 194) dL_law_194 rfl) ?_
        refine gb_if (gj_icmp_eq 201 (pc := 196) dL_law_196 (by decide)) ?_ ?_
        · refine zst_ (gj_iload 1 (pc := 201) dL_law_201 rfl) ?_
          refine gb_if (gj_if_ne 218 (pc := 203) dL_law_203 (by decide)) ?_ ?_
          · refine zst_ (gj_sub [2, 3, 4, 5, 6] rfl) ?_
            exact fun h => w_L_law_218 x1 x2 x3 x4 σ17 h hk
          · refine zst_ (gj_aload_n 5 (pc := 206) dL_law_206 rfl) ?_
            refine zst_ (gj_iconst (pc := 207) dL_law_207 (by decide)) ?_
            refine gb_lald (pc := 208) dL_law_208 (fun v18 => ?_)
            refine zst_ (gj_iload 0 (pc := 209) dL_law_209 rfl) ?_
            refine zst_ (gj_i2l (pc := 211) dL_law_211) ?_
            refine zst_ (gj_lcmp (pc := 212) dL_law_212) ?_
            refine gb_if (gj_if_eq 218 (pc := 213) dL_law_213 (by decide)) ?_ ?_
            · refine zst_ (gj_sub [2, 3, 4, 5, 6] rfl) ?_
              exact fun h => w_L_law_218 x1 x2 x3 x4 σ17 h hk
            · refine zst_ (gj_sub [] rfl) ?_
              intro h
              obtain ⟨r0, h0, rfl⟩ := zmE h
              exact w_L_law_216 σ17 h0 hk
        · refine zst_ (gj_sub [] rfl) ?_
          intro h
          obtain ⟨r0, h0, rfl⟩ := zmE h
          exact w_L_law_199 σ17 h0 hk
      · refine gb_ite (fun hc2 => ?_) (fun hc2 => ?_)
        · refine zst_ (fun kk => gj_table (pc := 39) dL_law_39 704 (by decide) (fun hx => absurd hx (by omega)) (fun _ _ => ⟨182, 221, by rw [hc2]; rfl, by decide, kk⟩)) ?_
          refine zst_ (gj_aload_n 1 (pc := 221) dL_law_221 rfl) ?_
          refine zst_ (gj_aload_n 3 (pc := 222) dL_law_222 rfl) ?_
          refine gb_callIT (pc := 223) (as := [zr x1, zr x3]) (rest := []) (zCl.of (zLk_S (M := ML_law) plX0_formula.1 rfl dL_law_223 q1525 q1526 q100 q1527) plX0_formula (Nat.le_of_ble_eq_true rfl) (fun h => c_X0_formula h)) (fun n a s0 h => by cases h; exact Or.inl ⟨rfl, hk⟩) (fun v19 σ20 => ?_)
          refine zst_ (gj_istore (pc := 226) (ls' := [(5, zi v19), (0, zq (-20)), (1, zr x1), (2, zr x2), (3, zr x3), (4, zi x4)]) dL_law_226 (by decide) rfl) ?_
          refine zst_ (gj_aload_n 3 (pc := 228) dL_law_228 rfl) ?_
          refine gb_gd (fun hb => ?_)
          refine gb_callI (pc := 229) (as := [zr x2]) (rest := []) (zCl.of (zLk_V (M := ML_law) (ci := 9) (r := (RX9, TX9, 84)) plX9_formula.1 rfl rfl (zisE hb).1 (zisE hb).2 dL_law_229 q2292 q2293 q2294 q2295) plX9_formula (Nat.le_of_ble_eq_true rfl) (fun h => c_X9_formula h)) (fun v21 σ22 => ?_)
          refine zst_ (gj_istore (pc := 232) (ls' := [(6, zi v21), (5, zi v19), (0, zq (-20)), (1, zr x1), (2, zr x2), (3, zr x3), (4, zi x4)]) dL_law_232 (by decide) rfl) ?_
          refine zst_ (gj_aload_n 4 (pc := 234) dL_law_234 rfl) ?_
          refine gb_gd (fun hb => ?_)
          refine gb_callI (pc := 235) (as := [zr x2]) (rest := []) (zCl.of (zLk_V (M := ML_law) (ci := 9) (r := (RX9, TX9, 84)) plX9_thrown.1 rfl rfl (zisE hb).1 (zisE hb).2 dL_law_235 q2135 q2136 q2137 q2138) plX9_thrown (Nat.le_of_ble_eq_true rfl) (fun h => c_X9_thrown h)) (fun v23 σ24 => ?_)
          refine zst_ (gj_iload 1 (pc := 238) dL_law_238 rfl) ?_
          refine gb_if (gj_icmp_eq 245 (pc := 240) dL_law_240 (by decide)) ?_ ?_
          · refine zst_ (gj_iload 1 (pc := 245) dL_law_245 rfl) ?_
            refine gb_if (gj_if_ne 262 (pc := 247) dL_law_247 (by decide)) ?_ ?_
            · refine zst_ (gj_sub [2, 3, 4, 5, 6] rfl) ?_
              exact fun h => w_L_law_262 x1 x2 x3 x4 σ24 h hk
            · refine zst_ (gj_aload_n 5 (pc := 250) dL_law_250 rfl) ?_
              refine zst_ (gj_iconst (pc := 251) dL_law_251 (by decide)) ?_
              refine gb_lald (pc := 252) dL_law_252 (fun v25 => ?_)
              refine zst_ (gj_iload 0 (pc := 253) dL_law_253 rfl) ?_
              refine zst_ (gj_i2l (pc := 255) dL_law_255) ?_
              refine zst_ (gj_lcmp (pc := 256) dL_law_256) ?_
              refine gb_if (gj_if_eq 262 (pc := 257) dL_law_257 (by decide)) ?_ ?_
              · refine zst_ (gj_sub [2, 3, 4, 5, 6] rfl) ?_
                exact fun h => w_L_law_262 x1 x2 x3 x4 σ24 h hk
              · refine zst_ (gj_sub [] rfl) ?_
                intro h
                obtain ⟨r0, h0, rfl⟩ := zmE h
                exact w_L_law_260 σ24 h0 hk
          · refine zst_ (gj_sub [] rfl) ?_
            intro h
            obtain ⟨r0, h0, rfl⟩ := zmE h
            exact w_L_law_243 σ24 h0 hk
        · refine gb_ite (fun hc3 => ?_) (fun hc3 => ?_)
          · refine zst_ (fun kk => gj_table (pc := 39) dL_law_39 704 (by decide) (fun hx => absurd hx (by omega)) (fun _ _ => ⟨226, 265, by rw [hc3]; rfl, by decide, kk⟩)) ?_
            refine zst_ (gj_aload_n 1 (pc := 265) dL_law_265 rfl) ?_
            refine gb_gd (fun hb => ?_)
            refine gb_callI (pc := 266) (as := [zr x1]) (rest := []) (zCl.of (zLk_V (M := ML_law) (ci := 1) (r := (RX1, TX1, 12)) plX1_place.1 rfl rfl (zisE hb).1 (zisE hb).2 dL_law_266 q905 q906 q907 q908) plX1_place (Nat.le_of_ble_eq_true rfl) (fun h => c_X1_place h)) (fun v26 σ27 => ?_)
            refine zst_ (gj_aload_n 2 (pc := 269) dL_law_269 rfl) ?_
            refine gb_gd (fun hb => ?_)
            refine gb_callI (pc := 270) (as := [zr x2]) (rest := [zi v26]) (zCl.of (zLk_V (M := ML_law) (ci := 9) (r := (RX9, TX9, 84)) plX9_place.1 rfl rfl (zisE hb).1 (zisE hb).2 dL_law_270 q2288 q2289 q2290 q2291) plX9_place (Nat.le_of_ble_eq_true rfl) (fun h => c_X9_place h)) (fun v28 σ29 => ?_)
            refine gb_if (gj_icmp_eq 704 (pc := 273) dL_law_273 (by decide)) ?_ ?_
            · exact fun h => w_L_law_704 x1 x2 x3 x4 σ29 h hk
            · refine zst_ (gj_sub [] rfl) ?_
              intro h
              obtain ⟨r0, h0, rfl⟩ := zmE h
              exact w_L_law_276 σ29 h0 hk
          · refine gb_ite (fun hc4 => ?_) (fun hc4 => ?_)
            · refine zst_ (fun kk => gj_table (pc := 39) dL_law_39 704 (by decide) (fun hx => absurd hx (by omega)) (fun _ _ => ⟨239, 278, by rw [hc4]; rfl, by decide, kk⟩)) ?_
              refine zst_ (gj_aload_n 1 (pc := 278) dL_law_278 rfl) ?_
              refine zst_ (gj_aload_n 3 (pc := 279) dL_law_279 rfl) ?_
              refine gb_callIT (pc := 280) (as := [zr x1, zr x3]) (rest := []) (zCl.of (zLk_S (M := ML_law) plX0_verify.1 rfl dL_law_280 q1673 q1674 q100 q1675) plX0_verify (Nat.le_of_ble_eq_true rfl) (fun h => c_X0_verify h)) (fun n a s0 h => by cases h; exact Or.inl ⟨rfl, hk⟩) (fun v30 σ31 => ?_)
              refine zst_ (gj_istore (pc := 283) (ls' := [(5, zi v30), (0, zq (-20)), (1, zr x1), (2, zr x2), (3, zr x3), (4, zi x4)]) dL_law_283 (by decide) rfl) ?_
              refine zst_ (gj_aload_n 3 (pc := 285) dL_law_285 rfl) ?_
              refine gb_gd (fun hb => ?_)
              refine gb_callI (pc := 286) (as := [zr x2]) (rest := []) (zCl.of (zLk_V (M := ML_law) (ci := 9) (r := (RX9, TX9, 84)) plX9_verify.1 rfl rfl (zisE hb).1 (zisE hb).2 dL_law_286 q2331 q2332 q2333 q2334) plX9_verify (Nat.le_of_ble_eq_true rfl) (fun h => c_X9_verify h)) (fun v32 σ33 => ?_)
              refine zst_ (gj_istore (pc := 289) (ls' := [(6, zi v32), (5, zi v30), (0, zq (-20)), (1, zr x1), (2, zr x2), (3, zr x3), (4, zi x4)]) dL_law_289 (by decide) rfl) ?_
              refine zst_ (gj_aload_n 4 (pc := 291) dL_law_291 rfl) ?_
              refine gb_gd (fun hb => ?_)
              refine gb_callI (pc := 292) (as := [zr x2]) (rest := []) (zCl.of (zLk_V (M := ML_law) (ci := 9) (r := (RX9, TX9, 84)) plX9_thrown.1 rfl rfl (zisE hb).1 (zisE hb).2 dL_law_292 q2135 q2136 q2137 q2138) plX9_thrown (Nat.le_of_ble_eq_true rfl) (fun h => c_X9_thrown h)) (fun v34 σ35 => ?_)
              refine zst_ (gj_iload 1 (pc := 295) dL_law_295 rfl) ?_
              refine gb_if (gj_icmp_eq 302 (pc := 297) dL_law_297 (by decide)) ?_ ?_
              · refine zst_ (gj_iload 1 (pc := 302) dL_law_302 rfl) ?_
                refine gb_if (gj_if_ne 326 (pc := 304) dL_law_304 (by decide)) ?_ ?_
                · refine zst_ (gj_sub [2, 3, 4, 5, 6] rfl) ?_
                  exact fun h => w_L_law_326 x1 x2 x3 x4 σ35 h hk
                · refine zst_ (gj_aload_n 5 (pc := 307) dL_law_307 rfl) ?_
                  refine zst_ (gj_iconst (pc := 308) dL_law_308 (by decide)) ?_
                  refine gb_lald (pc := 309) dL_law_309 (fun v36 => ?_)
                  refine zst_ (gj_iload 0 (pc := 310) dL_law_310 rfl) ?_
                  refine gb_if (gj_if_eq 319 (pc := 312) dL_law_312 (by decide)) ?_ ?_
                  · refine zst_ (gj_lconst0 (pc := 319) dL_law_319) ?_
                    refine zst_ (gj_sub [2, 3, 4, 5, 6] rfl) ?_
                    exact fun h => w_L_law_320 x1 x2 x3 x4 0 v36 σ35 h hk
                  · refine zst_ (gj_lconst1 (pc := 315) dL_law_315) ?_
                    refine zst_ (gj_goto 320 (pc := 316) dL_law_316 (by decide)) ?_
                    refine zst_ (gj_sub [2, 3, 4, 5, 6] rfl) ?_
                    exact fun h => w_L_law_320 x1 x2 x3 x4 1 v36 σ35 h hk
              · refine zst_ (gj_sub [] rfl) ?_
                intro h
                obtain ⟨r0, h0, rfl⟩ := zmE h
                exact w_L_law_300 σ35 h0 hk
            · refine gb_ite (fun hc5 => ?_) (fun hc5 => ?_)
              · refine zst_ (fun kk => gj_table (pc := 39) dL_law_39 704 (by decide) (fun hx => absurd hx (by omega)) (fun _ _ => ⟨290, 329, by rw [hc5]; rfl, by decide, kk⟩)) ?_
                refine zst_ (gj_aload_n 1 (pc := 329) dL_law_329 rfl) ?_
                refine gb_gd (fun hb => ?_)
                refine gb_callI (pc := 330) (as := [zr x1]) (rest := []) (zCl.of (zLk_V (M := ML_law) (ci := 1) (r := (RX1, TX1, 12)) plX1_stem.1 rfl rfl (zisE hb).1 (zisE hb).2 dL_law_330 q909 q910 q911 q912) plX1_stem (Nat.le_of_ble_eq_true rfl) (fun h => c_X1_stem h)) (fun v37 σ38 => ?_)
                refine zst_ (gj_aload_n 2 (pc := 333) dL_law_333 rfl) ?_
                refine gb_gd (fun hb => ?_)
                refine gb_callI (pc := 334) (as := [zr x2]) (rest := [zi v37]) (zCl.of (zLk_V (M := ML_law) (ci := 9) (r := (RX9, TX9, 84)) plX9_stem.1 rfl rfl (zisE hb).1 (zisE hb).2 dL_law_334 q2393 q2394 q2395 q2396) plX9_stem (Nat.le_of_ble_eq_true rfl) (fun h => c_X9_stem h)) (fun v39 σ40 => ?_)
                refine gb_if (gj_icmp_eq 704 (pc := 337) dL_law_337 (by decide)) ?_ ?_
                · exact fun h => w_L_law_704 x1 x2 x3 x4 σ40 h hk
                · refine zst_ (gj_sub [] rfl) ?_
                  intro h
                  obtain ⟨r0, h0, rfl⟩ := zmE h
                  exact w_L_law_340 σ40 h0 hk
              · refine gb_ite (fun hc6 => ?_) (fun hc6 => ?_)
                · refine zst_ (fun kk => gj_table (pc := 39) dL_law_39 704 (by decide) (fun hx => absurd hx (by omega)) (fun _ _ => ⟨303, 342, by rw [hc6]; rfl, by decide, kk⟩)) ?_
                  refine zst_ (gj_aload_n 1 (pc := 342) dL_law_342 rfl) ?_
                  refine gb_gd (fun hb => ?_)
                  refine gb_callI (pc := 343) (as := [zr x1]) (rest := []) (zCl.of (zLk_V (M := ML_law) (ci := 1) (r := (RX1, TX1, 12)) plX1_cycle.1 rfl rfl (zisE hb).1 (zisE hb).2 dL_law_343 q913 q914 q915 q916) plX1_cycle (Nat.le_of_ble_eq_true rfl) (fun h => c_X1_cycle h)) (fun v41 σ42 => ?_)
                  refine zst_ (gj_aload_n 2 (pc := 346) dL_law_346 rfl) ?_
                  refine gb_gd (fun hb => ?_)
                  refine gb_callI (pc := 347) (as := [zr x2]) (rest := [zi v41]) (zCl.of (zLk_V (M := ML_law) (ci := 9) (r := (RX9, TX9, 84)) plX9_cycle.1 rfl rfl (zisE hb).1 (zisE hb).2 dL_law_347 q2397 q2398 q2399 q2400) plX9_cycle (Nat.le_of_ble_eq_true rfl) (fun h => c_X9_cycle h)) (fun v43 σ44 => ?_)
                  refine gb_if (gj_icmp_eq 704 (pc := 350) dL_law_350 (by decide)) ?_ ?_
                  · exact fun h => w_L_law_704 x1 x2 x3 x4 σ44 h hk
                  · refine zst_ (gj_sub [] rfl) ?_
                    intro h
                    obtain ⟨r0, h0, rfl⟩ := zmE h
                    exact w_L_law_353 σ44 h0 hk
                · refine gb_ite (fun hc7 => ?_) (fun hc7 => ?_)
                  · refine zst_ (fun kk => gj_table (pc := 39) dL_law_39 704 (by decide) (fun hx => absurd hx (by omega)) (fun _ _ => ⟨316, 355, by rw [hc7]; rfl, by decide, kk⟩)) ?_
                    refine zst_ (gj_aload_n 1 (pc := 355) dL_law_355 rfl) ?_
                    refine zst_ (gj_aloadQ_n 0 (pc := 356) dL_law_356 rfl) ?_
                    refine zst_ (gj_iload 4 (pc := 357) dL_law_357 rfl) ?_
                    refine zst_ (gj_iconst (pc := 359) dL_law_359 (by decide)) ?_
                    refine zst_ (gj_iadd (pc := 360) dL_law_360) ?_
                    refine gb_sld (pc := 361) dL_law_361 (fun v45 => ?_)
                    refine zst_ (gj_aloadQ_n 0 (pc := 362) dL_law_362 rfl) ?_
                    refine zst_ (gj_iload 4 (pc := 363) dL_law_363 rfl) ?_
                    refine zst_ (gj_iconst (pc := 365) dL_law_365 (by decide)) ?_
                    refine zst_ (gj_iadd (pc := 366) dL_law_366) ?_
                    refine gb_sld (pc := 367) dL_law_367 (fun v46 => ?_)
                    refine zst_ (gj_aload_n 3 (pc := 368) dL_law_368 rfl) ?_
                    refine gb_callIT (pc := 369) (as := [zr x1, zi v45, zi v46, zr x3]) (rest := []) (zCl.of (zLk_S (M := ML_law) plX0_lasso.1 rfl dL_law_369 q1804 q1805 q100 q1806) plX0_lasso (Nat.le_of_ble_eq_true rfl) (fun h => c_X0_lasso h)) (fun n a s0 h => by cases h; exact Or.inl ⟨rfl, hk⟩) (fun v47 σ48 => ?_)
                    refine zst_ (gj_istore (pc := 372) (ls' := [(5, zi v47), (0, zq (-20)), (1, zr x1), (2, zr x2), (3, zr x3), (4, zi x4)]) dL_law_372 (by decide) rfl) ?_
                    refine zst_ (gj_aload_n 3 (pc := 374) dL_law_374 rfl) ?_
                    refine zst_ (gj_aloadQ_n 1 (pc := 375) dL_law_375 rfl) ?_
                    refine zst_ (gj_iload 5 (pc := 376) dL_law_376 rfl) ?_
                    refine zst_ (gj_iconst (pc := 378) dL_law_378 (by decide)) ?_
                    refine zst_ (gj_iadd (pc := 379) dL_law_379) ?_
                    refine gb_sld (pc := 380) dL_law_380 (fun v49 => ?_)
                    refine zst_ (gj_aloadQ_n 1 (pc := 381) dL_law_381 rfl) ?_
                    refine zst_ (gj_iload 5 (pc := 382) dL_law_382 rfl) ?_
                    refine zst_ (gj_iconst (pc := 384) dL_law_384 (by decide)) ?_
                    refine zst_ (gj_iadd (pc := 385) dL_law_385) ?_
                    refine gb_sld (pc := 386) dL_law_386 (fun v50 => ?_)
                    refine gb_gd (fun hb => ?_)
                    refine gb_callI (pc := 387) (as := [zr x2, zi v49, zi v50]) (rest := []) (zCl.of (zLk_V (M := ML_law) (ci := 9) (r := (RX9, TX9, 84)) plX9_lasso.1 rfl rfl (zisE hb).1 (zisE hb).2 dL_law_387 q2401 q2402 q2403 q2404) plX9_lasso (Nat.le_of_ble_eq_true rfl) (fun h => c_X9_lasso h)) (fun v51 σ52 => ?_)
                    refine zst_ (gj_istore (pc := 390) (ls' := [(6, zi v51), (5, zi v47), (0, zq (-20)), (1, zr x1), (2, zr x2), (3, zr x3), (4, zi x4)]) dL_law_390 (by decide) rfl) ?_
                    refine zst_ (gj_aload_n 4 (pc := 392) dL_law_392 rfl) ?_
                    refine gb_gd (fun hb => ?_)
                    refine gb_callI (pc := 393) (as := [zr x2]) (rest := []) (zCl.of (zLk_V (M := ML_law) (ci := 9) (r := (RX9, TX9, 84)) plX9_thrown.1 rfl rfl (zisE hb).1 (zisE hb).2 dL_law_393 q2135 q2136 q2137 q2138) plX9_thrown (Nat.le_of_ble_eq_true rfl) (fun h => c_X9_thrown h)) (fun v53 σ54 => ?_)
                    refine zst_ (gj_iload 1 (pc := 396) dL_law_396 rfl) ?_
                    refine gb_if (gj_icmp_eq 403 (pc := 398) dL_law_398 (by decide)) ?_ ?_
                    · refine zst_ (gj_iload 1 (pc := 403) dL_law_403 rfl) ?_
                      refine gb_if (gj_if_ne 420 (pc := 405) dL_law_405 (by decide)) ?_ ?_
                      · refine zst_ (gj_sub [2, 3, 4, 5, 6] rfl) ?_
                        exact fun h => w_L_law_420 x1 x2 x3 x4 σ54 h hk
                      · refine zst_ (gj_aload_n 5 (pc := 408) dL_law_408 rfl) ?_
                        refine zst_ (gj_iconst (pc := 409) dL_law_409 (by decide)) ?_
                        refine gb_lald (pc := 410) dL_law_410 (fun v55 => ?_)
                        refine zst_ (gj_iload 0 (pc := 411) dL_law_411 rfl) ?_
                        refine zst_ (gj_i2l (pc := 413) dL_law_413) ?_
                        refine zst_ (gj_lcmp (pc := 414) dL_law_414) ?_
                        refine gb_if (gj_if_eq 420 (pc := 415) dL_law_415 (by decide)) ?_ ?_
                        · refine zst_ (gj_sub [2, 3, 4, 5, 6] rfl) ?_
                          exact fun h => w_L_law_420 x1 x2 x3 x4 σ54 h hk
                        · refine zst_ (gj_sub [] rfl) ?_
                          intro h
                          obtain ⟨r0, h0, rfl⟩ := zmE h
                          exact w_L_law_418 σ54 h0 hk
                    · refine zst_ (gj_sub [] rfl) ?_
                      intro h
                      obtain ⟨r0, h0, rfl⟩ := zmE h
                      exact w_L_law_401 σ54 h0 hk
                  · refine gb_ite (fun hc8 => ?_) (fun hc8 => ?_)
                    · refine zst_ (fun kk => gj_table (pc := 39) dL_law_39 704 (by decide) (fun hx => absurd hx (by omega)) (fun _ _ => ⟨384, 423, by rw [hc8]; rfl, by decide, kk⟩)) ?_
                      refine zst_ (gj_aload_n 1 (pc := 423) dL_law_423 rfl) ?_
                      refine gb_callIT (pc := 424) (as := [zr x1]) (rest := []) (zCl.of (zLk_S (M := ML_law) plX0_walk.1 rfl dL_law_424 q1836 q1837 q100 q1838) plX0_walk (Nat.le_of_ble_eq_true rfl) (fun h => c_X0_walk h)) (fun n a s0 h => by cases h; exact Or.inl ⟨rfl, hk⟩) (fun v56 σ57 => ?_)
                      refine zst_ (gj_istore (pc := 427) (ls' := [(5, zi v56), (0, zq (-20)), (1, zr x1), (2, zr x2), (3, zr x3), (4, zi x4)]) dL_law_427 (by decide) rfl) ?_
                      refine zst_ (gj_aload_n 3 (pc := 429) dL_law_429 rfl) ?_
                      refine gb_gd (fun hb => ?_)
                      refine gb_callV (pc := 430) (as := [zr x2]) (rest := []) (zCl.of (zLk_V (M := ML_law) (ci := 9) (r := (RX9, TX9, 84)) plX9_walk.1 rfl rfl (zisE hb).1 (zisE hb).2 dL_law_430 q2405 q2406 q2407 q2408) plX9_walk (Nat.le_of_ble_eq_true rfl) (fun h => c_X9_walk h)) (fun σ58 => ?_)
                      refine zst_ (gj_aload_n 3 (pc := 433) dL_law_433 rfl) ?_
                      refine gb_gd (fun hb => ?_)
                      refine gb_callI (pc := 434) (as := [zr x2]) (rest := []) (zCl.of (zLk_V (M := ML_law) (ci := 9) (r := (RX9, TX9, 84)) plX9_thrown.1 rfl rfl (zisE hb).1 (zisE hb).2 dL_law_434 q2135 q2136 q2137 q2138) plX9_thrown (Nat.le_of_ble_eq_true rfl) (fun h => c_X9_thrown h)) (fun v59 σ60 => ?_)
                      refine zst_ (gj_iload 0 (pc := 437) dL_law_437 rfl) ?_
                      refine gb_if (gj_icmp_eq 444 (pc := 439) dL_law_439 (by decide)) ?_ ?_
                      · refine zst_ (gj_goto 704 (pc := 444) dL_law_444 (by decide)) ?_
                        refine zst_ (gj_sub [1, 2, 3, 4, 5] rfl) ?_
                        exact fun h => w_L_law_704 x1 x2 x3 x4 σ60 h hk
                      · refine zst_ (gj_sub [] rfl) ?_
                        intro h
                        obtain ⟨r0, h0, rfl⟩ := zmE h
                        exact w_L_law_442 σ60 h0 hk
                    · refine gb_ite (fun hc9 => ?_) (fun hc9 => ?_)
                      · refine zst_ (fun kk => gj_table (pc := 39) dL_law_39 704 (by decide) (fun hx => absurd hx (by omega)) (fun _ _ => ⟨408, 447, by rw [hc9]; rfl, by decide, kk⟩)) ?_
                        refine zst_ (gj_aload_n 1 (pc := 447) dL_law_447 rfl) ?_
                        refine gb_gd (fun hb => ?_)
                        refine gb_callI (pc := 448) (as := [zr x1]) (rest := []) (zCl.of (zLk_V (M := ML_law) (ci := 1) (r := (RX1, TX1, 12)) plX1_steps.1 rfl rfl (zisE hb).1 (zisE hb).2 dL_law_448 q917 q918 q919 q920) plX1_steps (Nat.le_of_ble_eq_true rfl) (fun h => c_X1_steps h)) (fun v61 σ62 => ?_)
                        refine zst_ (gj_aload_n 2 (pc := 451) dL_law_451 rfl) ?_
                        refine gb_gd (fun hb => ?_)
                        refine gb_callI (pc := 452) (as := [zr x2]) (rest := [zi v61]) (zCl.of (zLk_V (M := ML_law) (ci := 9) (r := (RX9, TX9, 84)) plX9_steps.1 rfl rfl (zisE hb).1 (zisE hb).2 dL_law_452 q2409 q2410 q2411 q2412) plX9_steps (Nat.le_of_ble_eq_true rfl) (fun h => c_X9_steps h)) (fun v63 σ64 => ?_)
                        refine gb_if (gj_icmp_eq 704 (pc := 455) dL_law_455 (by decide)) ?_ ?_
                        · exact fun h => w_L_law_704 x1 x2 x3 x4 σ64 h hk
                        · refine zst_ (gj_sub [] rfl) ?_
                          intro h
                          obtain ⟨r0, h0, rfl⟩ := zmE h
                          exact w_L_law_458 σ64 h0 hk
                      · refine gb_ite (fun hc10 => ?_) (fun hc10 => ?_)
                        · refine zst_ (fun kk => gj_table (pc := 39) dL_law_39 704 (by decide) (fun hx => absurd hx (by omega)) (fun _ _ => ⟨421, 460, by rw [hc10]; rfl, by decide, kk⟩)) ?_
                          refine zst_ (gj_aload_n 1 (pc := 460) dL_law_460 rfl) ?_
                          refine zst_ (gj_aloadQ_n 0 (pc := 461) dL_law_461 rfl) ?_
                          refine zst_ (gj_iload 4 (pc := 462) dL_law_462 rfl) ?_
                          refine zst_ (gj_iconst (pc := 464) dL_law_464 (by decide)) ?_
                          refine zst_ (gj_iadd (pc := 465) dL_law_465) ?_
                          refine gb_sld (pc := 466) dL_law_466 (fun v65 => ?_)
                          refine zst_ (gj_aload_n 3 (pc := 467) dL_law_467 rfl) ?_
                          refine gb_callIT (pc := 468) (as := [zr x1, zi v65, zr x3]) (rest := []) (zCl.of (zLk_S (M := ML_law) plX0_go.1 rfl dL_law_468 q1843 q1844 q100 q1845) plX0_go (Nat.le_of_ble_eq_true rfl) (fun h => c_X0_go h)) (fun n a s0 h => by cases h; exact Or.inl ⟨rfl, hk⟩) (fun v66 σ67 => ?_)
                          refine zst_ (gj_istore (pc := 471) (ls' := [(5, zi v66), (0, zq (-20)), (1, zr x1), (2, zr x2), (3, zr x3), (4, zi x4)]) dL_law_471 (by decide) rfl) ?_
                          refine zst_ (gj_aload_n 3 (pc := 473) dL_law_473 rfl) ?_
                          refine zst_ (gj_aloadQ_n 1 (pc := 474) dL_law_474 rfl) ?_
                          refine zst_ (gj_iload 5 (pc := 475) dL_law_475 rfl) ?_
                          refine zst_ (gj_iconst (pc := 477) dL_law_477 (by decide)) ?_
                          refine zst_ (gj_iadd (pc := 478) dL_law_478) ?_
                          refine gb_sld (pc := 479) dL_law_479 (fun v68 => ?_)
                          refine gb_gd (fun hb => ?_)
                          refine gb_callI (pc := 480) (as := [zr x2, zi v68]) (rest := []) (zCl.of (zLk_V (M := ML_law) (ci := 9) (r := (RX9, TX9, 84)) plX9_go.1 rfl rfl (zisE hb).1 (zisE hb).2 dL_law_480 q2413 q2414 q2415 q2416) plX9_go (Nat.le_of_ble_eq_true rfl) (fun h => c_X9_go h)) (fun v69 σ70 => ?_)
                          refine zst_ (gj_istore (pc := 483) (ls' := [(6, zi v69), (5, zi v66), (0, zq (-20)), (1, zr x1), (2, zr x2), (3, zr x3), (4, zi x4)]) dL_law_483 (by decide) rfl) ?_
                          refine zst_ (gj_aload_n 4 (pc := 485) dL_law_485 rfl) ?_
                          refine gb_gd (fun hb => ?_)
                          refine gb_callI (pc := 486) (as := [zr x2]) (rest := []) (zCl.of (zLk_V (M := ML_law) (ci := 9) (r := (RX9, TX9, 84)) plX9_thrown.1 rfl rfl (zisE hb).1 (zisE hb).2 dL_law_486 q2135 q2136 q2137 q2138) plX9_thrown (Nat.le_of_ble_eq_true rfl) (fun h => c_X9_thrown h)) (fun v71 σ72 => ?_)
                          refine zst_ (gj_iload 1 (pc := 489) dL_law_489 rfl) ?_
                          refine gb_if (gj_icmp_eq 496 (pc := 491) dL_law_491 (by decide)) ?_ ?_
                          · refine zst_ (gj_iload 1 (pc := 496) dL_law_496 rfl) ?_
                            refine gb_if (gj_if_ne 513 (pc := 498) dL_law_498 (by decide)) ?_ ?_
                            · refine zst_ (gj_sub [2, 3, 4, 5, 6] rfl) ?_
                              exact fun h => w_L_law_513 x1 x2 x3 x4 σ72 h hk
                            · refine zst_ (gj_aload_n 5 (pc := 501) dL_law_501 rfl) ?_
                              refine zst_ (gj_iconst (pc := 502) dL_law_502 (by decide)) ?_
                              refine gb_lald (pc := 503) dL_law_503 (fun v73 => ?_)
                              refine zst_ (gj_iload 0 (pc := 504) dL_law_504 rfl) ?_
                              refine zst_ (gj_i2l (pc := 506) dL_law_506) ?_
                              refine zst_ (gj_lcmp (pc := 507) dL_law_507) ?_
                              refine gb_if (gj_if_eq 513 (pc := 508) dL_law_508 (by decide)) ?_ ?_
                              · refine zst_ (gj_sub [2, 3, 4, 5, 6] rfl) ?_
                                exact fun h => w_L_law_513 x1 x2 x3 x4 σ72 h hk
                              · refine zst_ (gj_sub [] rfl) ?_
                                intro h
                                obtain ⟨r0, h0, rfl⟩ := zmE h
                                exact w_L_law_511 σ72 h0 hk
                          · refine zst_ (gj_sub [] rfl) ?_
                            intro h
                            obtain ⟨r0, h0, rfl⟩ := zmE h
                            exact w_L_law_494 σ72 h0 hk
                        · refine gb_ite (fun hc11 => ?_) (fun hc11 => ?_)
                          · refine zst_ (fun kk => gj_table (pc := 39) dL_law_39 704 (by decide) (fun hx => absurd hx (by omega)) (fun _ _ => ⟨477, 516, by rw [hc11]; rfl, by decide, kk⟩)) ?_
                            refine zst_ (gj_aload_n 1 (pc := 516) dL_law_516 rfl) ?_
                            refine zst_ (gj_aloadQ_n 0 (pc := 517) dL_law_517 rfl) ?_
                            refine zst_ (gj_iload 4 (pc := 518) dL_law_518 rfl) ?_
                            refine zst_ (gj_iconst (pc := 520) dL_law_520 (by decide)) ?_
                            refine zst_ (gj_iadd (pc := 521) dL_law_521) ?_
                            refine gb_sld (pc := 522) dL_law_522 (fun v74 => ?_)
                            refine gb_gd (fun hb => ?_)
                            refine gb_callI (pc := 523) (as := [zr x1, zi v74]) (rest := []) (zCl.of (zLk_V (M := ML_law) (ci := 1) (r := (RX1, TX1, 12)) plX1_value.1 rfl rfl (zisE hb).1 (zisE hb).2 dL_law_523 q925 q926 q927 q928) plX1_value (Nat.le_of_ble_eq_true rfl) (fun h => c_X1_value h)) (fun v75 σ76 => ?_)
                            refine zst_ (gj_aload_n 2 (pc := 526) dL_law_526 rfl) ?_
                            refine zst_ (gj_aloadQ_n 0 (pc := 527) dL_law_527 rfl) ?_
                            refine zst_ (gj_iload 4 (pc := 528) dL_law_528 rfl) ?_
                            refine zst_ (gj_iconst (pc := 530) dL_law_530 (by decide)) ?_
                            refine zst_ (gj_iadd (pc := 531) dL_law_531) ?_
                            refine gb_sld (pc := 532) dL_law_532 (fun v77 => ?_)
                            refine gb_gd (fun hb => ?_)
                            refine gb_callI (pc := 533) (as := [zr x2, zi v77]) (rest := [zi v75]) (zCl.of (zLk_V (M := ML_law) (ci := 9) (r := (RX9, TX9, 84)) plX9_value.1 rfl rfl (zisE hb).1 (zisE hb).2 dL_law_533 q2417 q2418 q2419 q2420) plX9_value (Nat.le_of_ble_eq_true rfl) (fun h => c_X9_value h)) (fun v78 σ79 => ?_)
                            refine gb_if (gj_icmp_eq 704 (pc := 536) dL_law_536 (by decide)) ?_ ?_
                            · exact fun h => w_L_law_704 x1 x2 x3 x4 σ79 h hk
                            · refine zst_ (gj_sub [] rfl) ?_
                              intro h
                              obtain ⟨r0, h0, rfl⟩ := zmE h
                              exact w_L_law_539 σ79 h0 hk
                          · refine gb_ite (fun hc12 => ?_) (fun hc12 => ?_)
                            · refine zst_ (fun kk => gj_table (pc := 39) dL_law_39 704 (by decide) (fun hx => absurd hx (by omega)) (fun _ _ => ⟨502, 541, by rw [hc12]; rfl, by decide, kk⟩)) ?_
                              refine zst_ (gj_aload_n 1 (pc := 541) dL_law_541 rfl) ?_
                              refine zst_ (gj_aloadQ_n 0 (pc := 542) dL_law_542 rfl) ?_
                              refine zst_ (gj_iload 4 (pc := 543) dL_law_543 rfl) ?_
                              refine zst_ (gj_iconst (pc := 545) dL_law_545 (by decide)) ?_
                              refine zst_ (gj_iadd (pc := 546) dL_law_546) ?_
                              refine gb_sld (pc := 547) dL_law_547 (fun v80 => ?_)
                              refine zst_ (gj_aloadQ_n 0 (pc := 548) dL_law_548 rfl) ?_
                              refine zst_ (gj_iload 4 (pc := 549) dL_law_549 rfl) ?_
                              refine zst_ (gj_iconst (pc := 551) dL_law_551 (by decide)) ?_
                              refine zst_ (gj_iadd (pc := 552) dL_law_552) ?_
                              refine gb_sld (pc := 553) dL_law_553 (fun v81 => ?_)
                              refine gb_gd (fun hb => ?_)
                              refine gb_callI (pc := 554) (as := [zr x1, zi v80, zi v81]) (rest := []) (zCl.of (zLk_V (M := ML_law) (ci := 1) (r := (RX1, TX1, 12)) plX1_message.1 rfl rfl (zisE hb).1 (zisE hb).2 dL_law_554 q937 q938 q939 q940) plX1_message (Nat.le_of_ble_eq_true rfl) (fun h => c_X1_message h)) (fun v82 σ83 => ?_)
                              refine zst_ (gj_aload_n 2 (pc := 557) dL_law_557 rfl) ?_
                              refine zst_ (gj_aloadQ_n 0 (pc := 558) dL_law_558 rfl) ?_
                              refine zst_ (gj_iload 4 (pc := 559) dL_law_559 rfl) ?_
                              refine zst_ (gj_iconst (pc := 561) dL_law_561 (by decide)) ?_
                              refine zst_ (gj_iadd (pc := 562) dL_law_562) ?_
                              refine gb_sld (pc := 563) dL_law_563 (fun v84 => ?_)
                              refine zst_ (gj_aloadQ_n 0 (pc := 564) dL_law_564 rfl) ?_
                              refine zst_ (gj_iload 4 (pc := 565) dL_law_565 rfl) ?_
                              refine zst_ (gj_iconst (pc := 567) dL_law_567 (by decide)) ?_
                              refine zst_ (gj_iadd (pc := 568) dL_law_568) ?_
                              refine gb_sld (pc := 569) dL_law_569 (fun v85 => ?_)
                              refine gb_gd (fun hb => ?_)
                              refine gb_callI (pc := 570) (as := [zr x2, zi v84, zi v85]) (rest := [zi v82]) (zCl.of (zLk_V (M := ML_law) (ci := 9) (r := (RX9, TX9, 84)) plX9_message.1 rfl rfl (zisE hb).1 (zisE hb).2 dL_law_570 q2425 q2426 q2427 q2428) plX9_message (Nat.le_of_ble_eq_true rfl) (fun h => c_X9_message h)) (fun v86 σ87 => ?_)
                              refine gb_if (gj_icmp_eq 704 (pc := 573) dL_law_573 (by decide)) ?_ ?_
                              · exact fun h => w_L_law_704 x1 x2 x3 x4 σ87 h hk
                              · refine zst_ (gj_sub [] rfl) ?_
                                intro h
                                obtain ⟨r0, h0, rfl⟩ := zmE h
                                exact w_L_law_576 σ87 h0 hk
                            · refine gb_ite (fun hc13 => ?_) (fun hc13 => ?_)
                              · refine zst_ (fun kk => gj_table (pc := 39) dL_law_39 704 (by decide) (fun hx => absurd hx (by omega)) (fun _ _ => ⟨539, 578, by rw [hc13]; rfl, by decide, kk⟩)) ?_
                                refine zst_ (gj_aload_n 1 (pc := 578) dL_law_578 rfl) ?_
                                refine zst_ (gj_aloadQ_n 0 (pc := 579) dL_law_579 rfl) ?_
                                refine zst_ (gj_iload 4 (pc := 580) dL_law_580 rfl) ?_
                                refine zst_ (gj_iconst (pc := 582) dL_law_582 (by decide)) ?_
                                refine zst_ (gj_iadd (pc := 583) dL_law_583) ?_
                                refine gb_sld (pc := 584) dL_law_584 (fun v88 => ?_)
                                refine gb_gd (fun hb => ?_)
                                refine gb_callI (pc := 585) (as := [zr x1, zi v88]) (rest := []) (zCl.of (zLk_V (M := ML_law) (ci := 1) (r := (RX1, TX1, 12)) plX1_point.1 rfl rfl (zisE hb).1 (zisE hb).2 dL_law_585 q941 q942 q943 q944) plX1_point (Nat.le_of_ble_eq_true rfl) (fun h => c_X1_point h)) (fun v89 σ90 => ?_)
                                refine zst_ (gj_aload_n 2 (pc := 588) dL_law_588 rfl) ?_
                                refine zst_ (gj_aloadQ_n 0 (pc := 589) dL_law_589 rfl) ?_
                                refine zst_ (gj_iload 4 (pc := 590) dL_law_590 rfl) ?_
                                refine zst_ (gj_iconst (pc := 592) dL_law_592 (by decide)) ?_
                                refine zst_ (gj_iadd (pc := 593) dL_law_593) ?_
                                refine gb_sld (pc := 594) dL_law_594 (fun v91 => ?_)
                                refine gb_gd (fun hb => ?_)
                                refine gb_callI (pc := 595) (as := [zr x2, zi v91]) (rest := [zi v89]) (zCl.of (zLk_V (M := ML_law) (ci := 9) (r := (RX9, TX9, 84)) plX9_point.1 rfl rfl (zisE hb).1 (zisE hb).2 dL_law_595 q2429 q2430 q2431 q2432) plX9_point (Nat.le_of_ble_eq_true rfl) (fun h => c_X9_point h)) (fun v92 σ93 => ?_)
                                refine gb_if (gj_icmp_eq 704 (pc := 598) dL_law_598 (by decide)) ?_ ?_
                                · exact fun h => w_L_law_704 x1 x2 x3 x4 σ93 h hk
                                · refine zst_ (gj_sub [] rfl) ?_
                                  intro h
                                  obtain ⟨r0, h0, rfl⟩ := zmE h
                                  exact w_L_law_601 σ93 h0 hk
                              · refine gb_ite (fun hc14 => ?_) (fun hc14 => ?_)
                                · refine zst_ (fun kk => gj_table (pc := 39) dL_law_39 704 (by decide) (fun hx => absurd hx (by omega)) (fun _ _ => ⟨564, 603, by rw [hc14]; rfl, by decide, kk⟩)) ?_
                                  refine zst_ (gj_aload_n 1 (pc := 603) dL_law_603 rfl) ?_
                                  refine gb_gd (fun hb => ?_)
                                  refine gb_callI (pc := 604) (as := [zr x1]) (rest := []) (zCl.of (zLk_V (M := ML_law) (ci := 1) (r := (RX1, TX1, 12)) plX1_holder.1 rfl rfl (zisE hb).1 (zisE hb).2 dL_law_604 q945 q946 q947 q948) plX1_holder (Nat.le_of_ble_eq_true rfl) (fun h => c_X1_holder h)) (fun v94 σ95 => ?_)
                                  refine zst_ (gj_aload_n 2 (pc := 607) dL_law_607 rfl) ?_
                                  refine gb_gd (fun hb => ?_)
                                  refine gb_callI (pc := 608) (as := [zr x2]) (rest := [zi v94]) (zCl.of (zLk_V (M := ML_law) (ci := 9) (r := (RX9, TX9, 84)) plX9_holder.1 rfl rfl (zisE hb).1 (zisE hb).2 dL_law_608 q2433 q2434 q2435 q2436) plX9_holder (Nat.le_of_ble_eq_true rfl) (fun h => c_X9_holder h)) (fun v96 σ97 => ?_)
                                  refine gb_if (gj_icmp_eq 704 (pc := 611) dL_law_611 (by decide)) ?_ ?_
                                  · exact fun h => w_L_law_704 x1 x2 x3 x4 σ97 h hk
                                  · refine zst_ (gj_sub [] rfl) ?_
                                    intro h
                                    obtain ⟨r0, h0, rfl⟩ := zmE h
                                    exact w_L_law_614 σ97 h0 hk
                                · refine gb_ite (fun hc15 => ?_) (fun hc15 => ?_)
                                  · refine zst_ (fun kk => gj_table (pc := 39) dL_law_39 704 (by decide) (fun hx => absurd hx (by omega)) (fun _ _ => ⟨577, 616, by rw [hc15]; rfl, by decide, kk⟩)) ?_
                                    refine zst_ (gj_aload_n 1 (pc := 616) dL_law_616 rfl) ?_
                                    refine zst_ (gj_aloadQ_n 0 (pc := 617) dL_law_617 rfl) ?_
                                    refine zst_ (gj_iload 4 (pc := 618) dL_law_618 rfl) ?_
                                    refine zst_ (gj_iconst (pc := 620) dL_law_620 (by decide)) ?_
                                    refine zst_ (gj_iadd (pc := 621) dL_law_621) ?_
                                    refine gb_sld (pc := 622) dL_law_622 (fun v98 => ?_)
                                    refine zst_ (gj_aload_n 3 (pc := 623) dL_law_623 rfl) ?_
                                    refine gb_callIT (pc := 624) (as := [zr x1, zi v98, zr x3]) (rest := []) (zCl.of (zLk_S (M := ML_law) plX0_truth.1 rfl dL_law_624 q1853 q1854 q100 q1855) plX0_truth (Nat.le_of_ble_eq_true rfl) (fun h => c_X0_truth h)) (fun n a s0 h => by cases h; exact Or.inl ⟨rfl, hk⟩) (fun v99 σ100 => ?_)
                                    refine zst_ (gj_istore (pc := 627) (ls' := [(5, zi v99), (0, zq (-20)), (1, zr x1), (2, zr x2), (3, zr x3), (4, zi x4)]) dL_law_627 (by decide) rfl) ?_
                                    refine zst_ (gj_aload_n 3 (pc := 629) dL_law_629 rfl) ?_
                                    refine zst_ (gj_aloadQ_n 1 (pc := 630) dL_law_630 rfl) ?_
                                    refine zst_ (gj_iload 5 (pc := 631) dL_law_631 rfl) ?_
                                    refine zst_ (gj_iconst (pc := 633) dL_law_633 (by decide)) ?_
                                    refine zst_ (gj_iadd (pc := 634) dL_law_634) ?_
                                    refine gb_sld (pc := 635) dL_law_635 (fun v101 => ?_)
                                    refine gb_gd (fun hb => ?_)
                                    refine gb_callI (pc := 636) (as := [zr x2, zi v101]) (rest := []) (zCl.of (zLk_V (M := ML_law) (ci := 9) (r := (RX9, TX9, 84)) plX9_truth.1 rfl rfl (zisE hb).1 (zisE hb).2 dL_law_636 q2437 q2438 q2439 q2440) plX9_truth (Nat.le_of_ble_eq_true rfl) (fun h => c_X9_truth h)) (fun v102 σ103 => ?_)
                                    refine zst_ (gj_istore (pc := 639) (ls' := [(6, zi v102), (5, zi v99), (0, zq (-20)), (1, zr x1), (2, zr x2), (3, zr x3), (4, zi x4)]) dL_law_639 (by decide) rfl) ?_
                                    refine zst_ (gj_aload_n 4 (pc := 641) dL_law_641 rfl) ?_
                                    refine gb_gd (fun hb => ?_)
                                    refine gb_callI (pc := 642) (as := [zr x2]) (rest := []) (zCl.of (zLk_V (M := ML_law) (ci := 9) (r := (RX9, TX9, 84)) plX9_thrown.1 rfl rfl (zisE hb).1 (zisE hb).2 dL_law_642 q2135 q2136 q2137 q2138) plX9_thrown (Nat.le_of_ble_eq_true rfl) (fun h => c_X9_thrown h)) (fun v104 σ105 => ?_)
                                    refine zst_ (gj_iload 1 (pc := 645) dL_law_645 rfl) ?_
                                    refine gb_if (gj_icmp_eq 652 (pc := 647) dL_law_647 (by decide)) ?_ ?_
                                    · refine zst_ (gj_iload 1 (pc := 652) dL_law_652 rfl) ?_
                                      refine gb_if (gj_if_ne 676 (pc := 654) dL_law_654 (by decide)) ?_ ?_
                                      · refine zst_ (gj_sub [2, 3, 4, 5, 6] rfl) ?_
                                        exact fun h => w_L_law_676 x1 x2 x3 x4 σ105 h hk
                                      · refine zst_ (gj_aload_n 5 (pc := 657) dL_law_657 rfl) ?_
                                        refine zst_ (gj_iconst (pc := 658) dL_law_658 (by decide)) ?_
                                        refine gb_lald (pc := 659) dL_law_659 (fun v106 => ?_)
                                        refine zst_ (gj_iload 0 (pc := 660) dL_law_660 rfl) ?_
                                        refine gb_if (gj_if_eq 669 (pc := 662) dL_law_662 (by decide)) ?_ ?_
                                        · refine zst_ (gj_lconst0 (pc := 669) dL_law_669) ?_
                                          refine zst_ (gj_sub [2, 3, 4, 5, 6] rfl) ?_
                                          exact fun h => w_L_law_670 x1 x2 x3 x4 0 v106 σ105 h hk
                                        · refine zst_ (gj_lconst1 (pc := 665) dL_law_665) ?_
                                          refine zst_ (gj_goto 670 (pc := 666) dL_law_666 (by decide)) ?_
                                          refine zst_ (gj_sub [2, 3, 4, 5, 6] rfl) ?_
                                          exact fun h => w_L_law_670 x1 x2 x3 x4 1 v106 σ105 h hk
                                    · refine zst_ (gj_sub [] rfl) ?_
                                      intro h
                                      obtain ⟨r0, h0, rfl⟩ := zmE h
                                      exact w_L_law_650 σ105 h0 hk
                                  · refine gb_ite (fun hc16 => ?_) (fun hc16 => ?_)
                                    · refine zst_ (fun kk => gj_table (pc := 39) dL_law_39 704 (by decide) (fun hx => absurd hx (by omega)) (fun _ _ => ⟨640, 679, by rw [hc16]; rfl, by decide, kk⟩)) ?_
                                      refine zst_ (gj_aload_n 1 (pc := 679) dL_law_679 rfl) ?_
                                      refine zst_ (gj_aloadQ_n 0 (pc := 680) dL_law_680 rfl) ?_
                                      refine zst_ (gj_iload 4 (pc := 681) dL_law_681 rfl) ?_
                                      refine zst_ (gj_iconst (pc := 683) dL_law_683 (by decide)) ?_
                                      refine zst_ (gj_iadd (pc := 684) dL_law_684) ?_
                                      refine gb_sld (pc := 685) dL_law_685 (fun v107 => ?_)
                                      refine gb_gd (fun hb => ?_)
                                      refine gb_callI (pc := 686) (as := [zr x1, zi v107]) (rest := []) (zCl.of (zLk_V (M := ML_law) (ci := 1) (r := (RX1, TX1, 12)) plX1_count.1 rfl rfl (zisE hb).1 (zisE hb).2 dL_law_686 q949 q950 q951 q952) plX1_count (Nat.le_of_ble_eq_true rfl) (fun h => c_X1_count h)) (fun v108 σ109 => ?_)
                                      refine zst_ (gj_aload_n 2 (pc := 689) dL_law_689 rfl) ?_
                                      refine zst_ (gj_aloadQ_n 0 (pc := 690) dL_law_690 rfl) ?_
                                      refine zst_ (gj_iload 4 (pc := 691) dL_law_691 rfl) ?_
                                      refine zst_ (gj_iconst (pc := 693) dL_law_693 (by decide)) ?_
                                      refine zst_ (gj_iadd (pc := 694) dL_law_694) ?_
                                      refine gb_sld (pc := 695) dL_law_695 (fun v110 => ?_)
                                      refine gb_gd (fun hb => ?_)
                                      refine gb_callI (pc := 696) (as := [zr x2, zi v110]) (rest := [zi v108]) (zCl.of (zLk_V (M := ML_law) (ci := 9) (r := (RX9, TX9, 84)) plX9_count.1 rfl rfl (zisE hb).1 (zisE hb).2 dL_law_696 q2441 q2442 q2443 q2444) plX9_count (Nat.le_of_ble_eq_true rfl) (fun h => c_X9_count h)) (fun v111 σ112 => ?_)
                                      refine gb_if (gj_icmp_eq 704 (pc := 699) dL_law_699 (by decide)) ?_ ?_
                                      · exact fun h => w_L_law_704 x1 x2 x3 x4 σ112 h hk
                                      · refine zst_ (gj_sub [] rfl) ?_
                                        intro h
                                        obtain ⟨r0, h0, rfl⟩ := zmE h
                                        exact w_L_law_702 σ112 h0 hk
                                    · refine zst_ (fun kk => gj_table (pc := 39) dL_law_39 704 (by decide) (fun _ => kk) (fun h1 h2 => absurd h1 (by omega))) ?_
                                      exact fun h => w_L_law_704 x1 x2 x3 x4 σ h hk
theorem w_L_law_23 {g : zG} {lv : Nat} {out : zO} (x1 x2 x3 x4 : Int) (σ : zM) {r : zO} (h : f_L_law_23 (zL g) (zXi g) x1 x2 x3 x4 σ = some r) (hk : (fun o : zO => o = out) r) : Gj g ML_law (lv + 95) 23 [(0, zq (-20)), (1, zr x1), (2, zr x2), (3, zr x3), (4, zi x4)] [] σ out :=
  gj_loop (P := (fun s : Int × zM => Gj g ML_law (lv + 95) 23 [(0, zq (-20)), (1, zr x1), (2, zr x2), (3, zr x3), (4, zi s.1)] [] s.2 out)) (fun s x hb hx => w_L_law_23_b x1 x2 x3 s.1 s.2 hb hx) h hk
noncomputable def f_L_law (L : Nat) (X : Nat → Int) (σ : zM) : Option zO :=
  (znO σ 1 12).bind fun σ1 =>
  zlet ((↑(zN σ) : Int)) fun y2 =>
  zgd (decide (0 ≤ y2)) <|
  zcv (f_X1_init y2 σ1) fun σ3 =>
  (znO σ3 9 84).bind fun σ4 =>
  zlet ((↑(zN σ3) : Int)) fun y5 =>
  zgd (decide (0 ≤ y5)) <|
  zcv (f_X9_init y5 σ4) fun σ6 =>
  (znA σ6 102 1).bind fun σ7 =>
  zlet ((↑(zN σ6) : Int)) fun y8 =>
  f_L_law_23 L X y2 y5 y8 0 σ7
theorem w_L_law {g : zG} {lv : Nat} {out : zO} (σ : zM) (h : f_L_law (zL g) (zXi g) σ = some out) : Gj g ML_law (lv + 95) 0 [(0, zq (-20))] [] σ out := by
  refine zgen h (fun r hk => ?_)
  unfold f_L_law
  refine gb_new (pc := 0) (ci := 1) (c := (RX1, TX1, 12)) rfl (by decide) dL_law_0 q146 q147 q101 (fun σ1 => ?_)
  refine gb_let (fun y2 => ?_)
  refine zst_ (gj_dup (pc := 3) dL_law_3 rfl) ?_
  refine gb_gd (fun hb => ?_)
  refine gb_callV (pc := 4) (as := [zr y2]) (rest := [zr y2]) (zCl.of (zLk_I (M := ML_law) plX1_init.1 rfl (of_decide_eq_true hb) rfl rfl dL_law_4 q148 q149 q150) plX1_init (Nat.le_of_ble_eq_true rfl) (fun h => c_X1_init h)) (fun σ3 => ?_)
  refine zst_ (gj_astore_n (pc := 7) (ls' := [(1, zr y2), (0, zq (-20))]) dL_law_7 (by decide) rfl) ?_
  refine gb_new (pc := 8) (ci := 9) (c := (RX9, TX9, 84)) rfl (by decide) dL_law_8 q1876 q1877 q127 (fun σ4 => ?_)
  refine gb_let (fun y5 => ?_)
  refine zst_ (gj_dup (pc := 11) dL_law_11 rfl) ?_
  refine gb_gd (fun hb => ?_)
  refine gb_callV (pc := 12) (as := [zr y5]) (rest := [zr y5]) (zCl.of (zLk_I (M := ML_law) plX9_init.1 rfl (of_decide_eq_true hb) rfl rfl dL_law_12 q1878 q1879 q1880) plX9_init (Nat.le_of_ble_eq_true rfl) (fun h => c_X9_init h)) (fun σ6 => ?_)
  refine zst_ (gj_astore_n (pc := 15) (ls' := [(2, zr y5), (1, zr y2), (0, zq (-20))]) dL_law_15 (by decide) rfl) ?_
  refine zst_ (gj_iconst (pc := 16) dL_law_16 (by decide)) ?_
  refine gb_newa (pc := 17) (k := 102) ⟨by decide, by decide⟩ rfl dL_law_17 q267 (fun σ7 => ?_)
  refine gb_let (fun y8 => ?_)
  refine zst_ (gj_astore_n (pc := 19) (ls' := [(3, zr y8), (2, zr y5), (1, zr y2), (0, zq (-20))]) dL_law_19 (by decide) rfl) ?_
  refine zst_ (gj_iconst (pc := 20) dL_law_20 (by decide)) ?_
  refine zst_ (gj_istore (pc := 21) (ls' := [(4, zi 0), (3, zr y8), (2, zr y5), (1, zr y2), (0, zq (-20))]) dL_law_21 (by decide) rfl) ?_
  refine zst_ (gj_sub [4, 3, 2, 1, 0] rfl) ?_
  exact fun h => w_L_law_23 y2 y5 y8 0 σ7 h hk
