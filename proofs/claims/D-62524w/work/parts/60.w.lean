set_option maxRecDepth 100000
theorem q127 : (Jvm.Cond.initialized "LassoFinderModel") ∈ lw_all := lw_g (lw_at lw_m1 27 rfl) rfl
theorem q1880 : (Jvm.Cond.code ({ cls := "LassoFinderModel", name := "<init>", desc := "()V" } : Jvm.MethodName) prog_22_method_1_code (1 : Nat) (Option.none : Option Jvm.ClassFile.FieldType)) ∈ lw_all := lw_g (lw_at lw_m8 100 rfl) rfl
theorem q1881 : (Jvm.Cond.methodLink "LassoFinderModel" (1 : Nat) ({ cls := "java/lang/Object", name := "<init>", desc := "()V" } : Jvm.MethodName)) ∈ lw_all := lw_g (lw_at lw_m8 101 rfl) rfl
theorem q1884 : (Jvm.Cond.fieldLink "LassoFinderModel" (7 : Nat) "LassoFinderModel" "text" "[I") ∈ lw_all := lw_g (lw_at lw_m8 104 rfl) rfl
theorem q1887 : (Jvm.Cond.fieldLink "LassoFinderModel" (13 : Nat) "LassoFinderModel" "place" "I") ∈ lw_all := lw_g (lw_at lw_m8 107 rfl) rfl
theorem q1891 : (Jvm.Cond.fieldLink "LassoFinderModel" (17 : Nat) "LassoFinderModel" "var" "[I") ∈ lw_all := lw_g (lw_at lw_m8 111 rfl) rfl
theorem q1892 : (Jvm.Cond.fieldLink "LassoFinderModel" (20 : Nat) "LassoFinderModel" "chan" "[I") ∈ lw_all := lw_g (lw_at lw_m8 112 rfl) rfl
theorem q1893 : (Jvm.Cond.fieldLink "LassoFinderModel" (23 : Nat) "LassoFinderModel" "initial" "[I") ∈ lw_all := lw_g (lw_at lw_m8 113 rfl) rfl
theorem q1894 : (Jvm.Cond.fieldLink "LassoFinderModel" (26 : Nat) "LassoFinderModel" "slots" "[I") ∈ lw_all := lw_g (lw_at lw_m8 114 rfl) rfl
theorem q1896 : (Jvm.Cond.fieldLink "LassoFinderModel" (29 : Nat) "LassoFinderModel" "kind" "[I") ∈ lw_all := lw_g (lw_at lw_m8 116 rfl) rfl
theorem q1897 : (Jvm.Cond.fieldLink "LassoFinderModel" (32 : Nat) "LassoFinderModel" "process" "[I") ∈ lw_all := lw_g (lw_at lw_m8 117 rfl) rfl
theorem q1898 : (Jvm.Cond.fieldLink "LassoFinderModel" (35 : Nat) "LassoFinderModel" "parent" "[I") ∈ lw_all := lw_g (lw_at lw_m8 118 rfl) rfl
theorem q1899 : (Jvm.Cond.fieldLink "LassoFinderModel" (38 : Nat) "LassoFinderModel" "sibling" "[I") ∈ lw_all := lw_g (lw_at lw_m8 119 rfl) rfl
theorem q1900 : (Jvm.Cond.fieldLink "LassoFinderModel" (41 : Nat) "LassoFinderModel" "firstOf" "[Z") ∈ lw_all := lw_g (lw_at lw_m8 120 rfl) rfl
theorem q1901 : (Jvm.Cond.fieldLink "LassoFinderModel" (45 : Nat) "LassoFinderModel" "atomic" "[I") ∈ lw_all := lw_g (lw_at lw_m8 121 rfl) rfl
theorem q1902 : (Jvm.Cond.fieldLink "LassoFinderModel" (48 : Nat) "LassoFinderModel" "point" "[I") ∈ lw_all := lw_g (lw_at lw_m8 122 rfl) rfl
theorem q1903 : (Jvm.Cond.fieldLink "LassoFinderModel" (51 : Nat) "LassoFinderModel" "arg" "[I") ∈ lw_all := lw_g (lw_at lw_m8 123 rfl) rfl
theorem q1904 : (Jvm.Cond.fieldLink "LassoFinderModel" (54 : Nat) "LassoFinderModel" "into" "[I") ∈ lw_all := lw_g (lw_at lw_m8 124 rfl) rfl
theorem q1905 : (Jvm.Cond.fieldLink "LassoFinderModel" (57 : Nat) "LassoFinderModel" "begin" "[I") ∈ lw_all := lw_g (lw_at lw_m8 125 rfl) rfl
theorem q1906 : (Jvm.Cond.fieldLink "LassoFinderModel" (60 : Nat) "LassoFinderModel" "end" "[I") ∈ lw_all := lw_g (lw_at lw_m8 126 rfl) rfl
theorem q1907 : (Jvm.Cond.fieldLink "LassoFinderModel" (63 : Nat) "LassoFinderModel" "where" "[I") ∈ lw_all := lw_g (lw_at lw_m8 127 rfl) rfl
theorem q1908 : (Jvm.Cond.fieldLink "LassoFinderModel" (66 : Nat) "LassoFinderModel" "behind" "[I") ∈ lw_all := lw_g (lw_at lw_m8 128 rfl) rfl
theorem q1910 : (Jvm.Cond.fieldLink "LassoFinderModel" (69 : Nat) "LassoFinderModel" "basicNode" "[I") ∈ lw_all := lw_g (lw_at lw_m8 130 rfl) rfl
theorem q1911 : (Jvm.Cond.fieldLink "LassoFinderModel" (72 : Nat) "LassoFinderModel" "basicOf" "[I") ∈ lw_all := lw_g (lw_at lw_m8 131 rfl) rfl
theorem q1913 : (Jvm.Cond.fieldLink "LassoFinderModel" (75 : Nat) "LassoFinderModel" "points" "[I") ∈ lw_all := lw_g (lw_at lw_m8 133 rfl) rfl
theorem q1914 : (Jvm.Cond.fieldLink "LassoFinderModel" (78 : Nat) "LassoFinderModel" "firstNode" "[I") ∈ lw_all := lw_g (lw_at lw_m8 134 rfl) rfl
theorem q1915 : (Jvm.Cond.fieldLink "LassoFinderModel" (81 : Nat) "LassoFinderModel" "labels" "[I") ∈ lw_all := lw_g (lw_at lw_m8 135 rfl) rfl
theorem q1916 : (Jvm.Cond.fieldLink "LassoFinderModel" (84 : Nat) "LassoFinderModel" "nodeAt" "[I") ∈ lw_all := lw_g (lw_at lw_m8 136 rfl) rfl
theorem q1917 : (Jvm.Cond.fieldLink "LassoFinderModel" (87 : Nat) "LassoFinderModel" "mask" "[J") ∈ lw_all := lw_g (lw_at lw_m8 137 rfl) rfl
theorem q1919 : (Jvm.Cond.fieldLink "LassoFinderModel" (91 : Nat) "LassoFinderModel" "code" "[I") ∈ lw_all := lw_g (lw_at lw_m8 139 rfl) rfl
theorem q1921 : (Jvm.Cond.fieldLink "LassoFinderModel" (94 : Nat) "LassoFinderModel" "block" "[I") ∈ lw_all := lw_g (lw_at lw_m8 141 rfl) rfl
theorem q1922 : (Jvm.Cond.fieldLink "LassoFinderModel" (97 : Nat) "LassoFinderModel" "blockNode" "[I") ∈ lw_all := lw_g (lw_at lw_m8 142 rfl) rfl
theorem q1923 : (Jvm.Cond.fieldLink "LassoFinderModel" (100 : Nat) "LassoFinderModel" "latest" "[I") ∈ lw_all := lw_g (lw_at lw_m8 143 rfl) rfl
theorem q1925 : (Jvm.Cond.fieldLink "LassoFinderModel" (103 : Nat) "LassoFinderModel" "signs" "[I") ∈ lw_all := lw_g (lw_at lw_m8 145 rfl) rfl
theorem q1929 : (Jvm.Cond.fieldLink "LassoFinderModel" (106 : Nat) "LassoFinderModel" "key" "[J") ∈ lw_all := lw_g (lw_at lw_m8 149 rfl) rfl
theorem q1930 : (Jvm.Cond.fieldLink "LassoFinderModel" (109 : Nat) "LassoFinderModel" "first" "[I") ∈ lw_all := lw_g (lw_at lw_m8 150 rfl) rfl
theorem q1931 : (Jvm.Cond.fieldLink "LassoFinderModel" (112 : Nat) "LassoFinderModel" "target" "[I") ∈ lw_all := lw_g (lw_at lw_m8 151 rfl) rfl
theorem q1932 : (Jvm.Cond.fieldLink "LassoFinderModel" (115 : Nat) "LassoFinderModel" "source" "[I") ∈ lw_all := lw_g (lw_at lw_m8 152 rfl) rfl
theorem q1933 : (Jvm.Cond.fieldLink "LassoFinderModel" (118 : Nat) "LassoFinderModel" "doer" "[I") ∈ lw_all := lw_g (lw_at lw_m8 153 rfl) rfl
theorem q1934 : (Jvm.Cond.fieldLink "LassoFinderModel" (121 : Nat) "LassoFinderModel" "receiver" "[I") ∈ lw_all := lw_g (lw_at lw_m8 154 rfl) rfl
theorem q1935 : (Jvm.Cond.fieldLink "LassoFinderModel" (124 : Nat) "LassoFinderModel" "firstInto" "[I") ∈ lw_all := lw_g (lw_at lw_m8 155 rfl) rfl
theorem q1936 : (Jvm.Cond.fieldLink "LassoFinderModel" (127 : Nat) "LassoFinderModel" "stepInto" "[I") ∈ lw_all := lw_g (lw_at lw_m8 156 rfl) rfl
theorem q1937 : (Jvm.Cond.fieldLink "LassoFinderModel" (130 : Nat) "LassoFinderModel" "value" "[I") ∈ lw_all := lw_g (lw_at lw_m8 157 rfl) rfl
theorem q1938 : (Jvm.Cond.fieldLink "LassoFinderModel" (133 : Nat) "LassoFinderModel" "many" "[I") ∈ lw_all := lw_g (lw_at lw_m8 158 rfl) rfl
theorem q1939 : (Jvm.Cond.fieldLink "LassoFinderModel" (136 : Nat) "LassoFinderModel" "message" "[I") ∈ lw_all := lw_g (lw_at lw_m8 159 rfl) rfl
theorem q1940 : (Jvm.Cond.fieldLink "LassoFinderModel" (139 : Nat) "LassoFinderModel" "stands" "[I") ∈ lw_all := lw_g (lw_at lw_m8 160 rfl) rfl
theorem q1942 : (Jvm.Cond.fieldLink "LassoFinderModel" (142 : Nat) "LassoFinderModel" "stack" "[I") ∈ lw_all := lw_g (lw_at lw_m8 162 rfl) rfl
theorem q1945 : (Jvm.Cond.fieldLink "LassoFinderModel" (145 : Nat) "LassoFinderModel" "sign" "[I") ∈ lw_all := lw_g (lw_at lw_m8 165 rfl) rfl
theorem q1948 : (Jvm.Cond.fieldLink "LassoFinderModel" (148 : Nat) "LassoFinderModel" "kept" "[I") ∈ lw_all := lw_g (lw_at lw_m8 168 rfl) rfl
theorem q1950 : (Jvm.Cond.fieldLink "LassoFinderModel" (151 : Nat) "LassoFinderModel" "turn" "[I") ∈ lw_all := lw_g (lw_at lw_m8 170 rfl) rfl
theorem q1952 : (Jvm.Cond.fieldLink "LassoFinderModel" (154 : Nat) "LassoFinderModel" "atomProcess" "[I") ∈ lw_all := lw_g (lw_at lw_m8 172 rfl) rfl
theorem q1953 : (Jvm.Cond.fieldLink "LassoFinderModel" (157 : Nat) "LassoFinderModel" "atomPoint" "[I") ∈ lw_all := lw_g (lw_at lw_m8 173 rfl) rfl
theorem q1954 : (Jvm.Cond.fieldLink "LassoFinderModel" (160 : Nat) "LassoFinderModel" "atomBegin" "[I") ∈ lw_all := lw_g (lw_at lw_m8 174 rfl) rfl
theorem q1955 : (Jvm.Cond.fieldLink "LassoFinderModel" (163 : Nat) "LassoFinderModel" "atomEnd" "[I") ∈ lw_all := lw_g (lw_at lw_m8 175 rfl) rfl
theorem q1956 : (Jvm.Cond.fieldLink "LassoFinderModel" (166 : Nat) "LassoFinderModel" "look" "[I") ∈ lw_all := lw_g (lw_at lw_m8 176 rfl) rfl
theorem q1957 : (Jvm.Cond.fieldLink "LassoFinderModel" (169 : Nat) "LassoFinderModel" "deep" "[I") ∈ lw_all := lw_g (lw_at lw_m8 177 rfl) rfl
theorem q1958 : (Jvm.Cond.fieldLink "LassoFinderModel" (172 : Nat) "LassoFinderModel" "good" "[Z") ∈ lw_all := lw_g (lw_at lw_m8 178 rfl) rfl
theorem q1959 : (Jvm.Cond.fieldLink "LassoFinderModel" (175 : Nat) "LassoFinderModel" "far" "[I") ∈ lw_all := lw_g (lw_at lw_m8 179 rfl) rfl
theorem q1960 : (Jvm.Cond.fieldLink "LassoFinderModel" (178 : Nat) "LassoFinderModel" "stem" "I") ∈ lw_all := lw_g (lw_at lw_m8 180 rfl) rfl
theorem q1962 : (Jvm.Cond.fieldLink "LassoFinderModel" (181 : Nat) "LassoFinderModel" "row" "[I") ∈ lw_all := lw_g (lw_at lw_m8 182 rfl) rfl
theorem q1963 : (Jvm.Cond.fieldLink "LassoFinderModel" (184 : Nat) "LassoFinderModel" "tried" "[I") ∈ lw_all := lw_g (lw_at lw_m8 183 rfl) rfl
theorem q1964 : (Jvm.Cond.fieldLink "LassoFinderModel" (187 : Nat) "LassoFinderModel" "walked" "I") ∈ lw_all := lw_g (lw_at lw_m8 184 rfl) rfl
theorem q1965 : (Jvm.Cond.fieldLink "LassoFinderModel" (190 : Nat) "LassoFinderModel" "path" "[I") ∈ lw_all := lw_g (lw_at lw_m8 185 rfl) rfl
theorem fl902 : zfl 902 2 "LassoFinderModel" "text" "[I" true := ⟨rfl, rfl, rfl⟩
theorem fr902 {g : zG} {v : Int} : zok g (2, v) → zokt g (zft 902) v := fun h => h
theorem fl905 : zfl 905 0 "LassoFinderModel" "place" "I" false := ⟨rfl, rfl, rfl⟩
theorem fr905 {g : zG} {v : Int} : zok g (0, v) → zokt g (zft 905) v := fun h => h
theorem fl909 : zfl 909 2 "LassoFinderModel" "var" "[I" true := ⟨rfl, rfl, rfl⟩
theorem fr909 {g : zG} {v : Int} : zok g (2, v) → zokt g (zft 909) v := fun h => h
theorem fl910 : zfl 910 2 "LassoFinderModel" "chan" "[I" true := ⟨rfl, rfl, rfl⟩
theorem fr910 {g : zG} {v : Int} : zok g (2, v) → zokt g (zft 910) v := fun h => h
theorem fl911 : zfl 911 2 "LassoFinderModel" "initial" "[I" true := ⟨rfl, rfl, rfl⟩
theorem fr911 {g : zG} {v : Int} : zok g (2, v) → zokt g (zft 911) v := fun h => h
theorem fl912 : zfl 912 2 "LassoFinderModel" "slots" "[I" true := ⟨rfl, rfl, rfl⟩
theorem fr912 {g : zG} {v : Int} : zok g (2, v) → zokt g (zft 912) v := fun h => h
theorem fl914 : zfl 914 2 "LassoFinderModel" "kind" "[I" true := ⟨rfl, rfl, rfl⟩
theorem fr914 {g : zG} {v : Int} : zok g (2, v) → zokt g (zft 914) v := fun h => h
theorem fl915 : zfl 915 2 "LassoFinderModel" "process" "[I" true := ⟨rfl, rfl, rfl⟩
theorem fr915 {g : zG} {v : Int} : zok g (2, v) → zokt g (zft 915) v := fun h => h
theorem fl916 : zfl 916 2 "LassoFinderModel" "parent" "[I" true := ⟨rfl, rfl, rfl⟩
theorem fr916 {g : zG} {v : Int} : zok g (2, v) → zokt g (zft 916) v := fun h => h
theorem fl917 : zfl 917 2 "LassoFinderModel" "sibling" "[I" true := ⟨rfl, rfl, rfl⟩
theorem fr917 {g : zG} {v : Int} : zok g (2, v) → zokt g (zft 917) v := fun h => h
theorem fl918 : zfl 918 2 "LassoFinderModel" "firstOf" "[Z" true := ⟨rfl, rfl, rfl⟩
theorem fr918 {g : zG} {v : Int} : zok g (2, v) → zokt g (zft 918) v := fun h => h
theorem fl919 : zfl 919 2 "LassoFinderModel" "atomic" "[I" true := ⟨rfl, rfl, rfl⟩
theorem fr919 {g : zG} {v : Int} : zok g (2, v) → zokt g (zft 919) v := fun h => h
theorem fl920 : zfl 920 2 "LassoFinderModel" "point" "[I" true := ⟨rfl, rfl, rfl⟩
theorem fr920 {g : zG} {v : Int} : zok g (2, v) → zokt g (zft 920) v := fun h => h
theorem fl921 : zfl 921 2 "LassoFinderModel" "arg" "[I" true := ⟨rfl, rfl, rfl⟩
theorem fr921 {g : zG} {v : Int} : zok g (2, v) → zokt g (zft 921) v := fun h => h
theorem fl922 : zfl 922 2 "LassoFinderModel" "into" "[I" true := ⟨rfl, rfl, rfl⟩
theorem fr922 {g : zG} {v : Int} : zok g (2, v) → zokt g (zft 922) v := fun h => h
theorem fl923 : zfl 923 2 "LassoFinderModel" "begin" "[I" true := ⟨rfl, rfl, rfl⟩
theorem fr923 {g : zG} {v : Int} : zok g (2, v) → zokt g (zft 923) v := fun h => h
theorem fl924 : zfl 924 2 "LassoFinderModel" "end" "[I" true := ⟨rfl, rfl, rfl⟩
theorem fr924 {g : zG} {v : Int} : zok g (2, v) → zokt g (zft 924) v := fun h => h
theorem fl925 : zfl 925 2 "LassoFinderModel" "where" "[I" true := ⟨rfl, rfl, rfl⟩
theorem fr925 {g : zG} {v : Int} : zok g (2, v) → zokt g (zft 925) v := fun h => h
theorem fl926 : zfl 926 2 "LassoFinderModel" "behind" "[I" true := ⟨rfl, rfl, rfl⟩
theorem fr926 {g : zG} {v : Int} : zok g (2, v) → zokt g (zft 926) v := fun h => h
theorem fl928 : zfl 928 2 "LassoFinderModel" "basicNode" "[I" true := ⟨rfl, rfl, rfl⟩
theorem fr928 {g : zG} {v : Int} : zok g (2, v) → zokt g (zft 928) v := fun h => h
theorem fl929 : zfl 929 2 "LassoFinderModel" "basicOf" "[I" true := ⟨rfl, rfl, rfl⟩
theorem fr929 {g : zG} {v : Int} : zok g (2, v) → zokt g (zft 929) v := fun h => h
theorem fl931 : zfl 931 2 "LassoFinderModel" "points" "[I" true := ⟨rfl, rfl, rfl⟩
theorem fr931 {g : zG} {v : Int} : zok g (2, v) → zokt g (zft 931) v := fun h => h
theorem fl932 : zfl 932 2 "LassoFinderModel" "firstNode" "[I" true := ⟨rfl, rfl, rfl⟩
theorem fr932 {g : zG} {v : Int} : zok g (2, v) → zokt g (zft 932) v := fun h => h
theorem fl933 : zfl 933 2 "LassoFinderModel" "labels" "[I" true := ⟨rfl, rfl, rfl⟩
theorem fr933 {g : zG} {v : Int} : zok g (2, v) → zokt g (zft 933) v := fun h => h
theorem fl934 : zfl 934 2 "LassoFinderModel" "nodeAt" "[I" true := ⟨rfl, rfl, rfl⟩
theorem fr934 {g : zG} {v : Int} : zok g (2, v) → zokt g (zft 934) v := fun h => h
theorem fl935 : zfl 935 2 "LassoFinderModel" "mask" "[J" true := ⟨rfl, rfl, rfl⟩
theorem fr935 {g : zG} {v : Int} : zok g (2, v) → zokt g (zft 935) v := fun h => h
theorem fl937 : zfl 937 2 "LassoFinderModel" "code" "[I" true := ⟨rfl, rfl, rfl⟩
theorem fr937 {g : zG} {v : Int} : zok g (2, v) → zokt g (zft 937) v := fun h => h
theorem fl939 : zfl 939 2 "LassoFinderModel" "block" "[I" true := ⟨rfl, rfl, rfl⟩
theorem fr939 {g : zG} {v : Int} : zok g (2, v) → zokt g (zft 939) v := fun h => h
theorem fl940 : zfl 940 2 "LassoFinderModel" "blockNode" "[I" true := ⟨rfl, rfl, rfl⟩
theorem fr940 {g : zG} {v : Int} : zok g (2, v) → zokt g (zft 940) v := fun h => h
theorem fl941 : zfl 941 2 "LassoFinderModel" "latest" "[I" true := ⟨rfl, rfl, rfl⟩
theorem fr941 {g : zG} {v : Int} : zok g (2, v) → zokt g (zft 941) v := fun h => h
theorem fl943 : zfl 943 2 "LassoFinderModel" "signs" "[I" true := ⟨rfl, rfl, rfl⟩
theorem fr943 {g : zG} {v : Int} : zok g (2, v) → zokt g (zft 943) v := fun h => h
theorem fl947 : zfl 947 2 "LassoFinderModel" "key" "[J" true := ⟨rfl, rfl, rfl⟩
theorem fr947 {g : zG} {v : Int} : zok g (2, v) → zokt g (zft 947) v := fun h => h
theorem fl948 : zfl 948 2 "LassoFinderModel" "first" "[I" true := ⟨rfl, rfl, rfl⟩
theorem fr948 {g : zG} {v : Int} : zok g (2, v) → zokt g (zft 948) v := fun h => h
theorem fl949 : zfl 949 2 "LassoFinderModel" "target" "[I" true := ⟨rfl, rfl, rfl⟩
theorem fr949 {g : zG} {v : Int} : zok g (2, v) → zokt g (zft 949) v := fun h => h
theorem fl950 : zfl 950 2 "LassoFinderModel" "source" "[I" true := ⟨rfl, rfl, rfl⟩
theorem fr950 {g : zG} {v : Int} : zok g (2, v) → zokt g (zft 950) v := fun h => h
theorem fl951 : zfl 951 2 "LassoFinderModel" "doer" "[I" true := ⟨rfl, rfl, rfl⟩
theorem fr951 {g : zG} {v : Int} : zok g (2, v) → zokt g (zft 951) v := fun h => h
theorem fl952 : zfl 952 2 "LassoFinderModel" "receiver" "[I" true := ⟨rfl, rfl, rfl⟩
theorem fr952 {g : zG} {v : Int} : zok g (2, v) → zokt g (zft 952) v := fun h => h
theorem fl953 : zfl 953 2 "LassoFinderModel" "firstInto" "[I" true := ⟨rfl, rfl, rfl⟩
theorem fr953 {g : zG} {v : Int} : zok g (2, v) → zokt g (zft 953) v := fun h => h
theorem fl954 : zfl 954 2 "LassoFinderModel" "stepInto" "[I" true := ⟨rfl, rfl, rfl⟩
theorem fr954 {g : zG} {v : Int} : zok g (2, v) → zokt g (zft 954) v := fun h => h
theorem fl955 : zfl 955 2 "LassoFinderModel" "value" "[I" true := ⟨rfl, rfl, rfl⟩
theorem fr955 {g : zG} {v : Int} : zok g (2, v) → zokt g (zft 955) v := fun h => h
theorem fl956 : zfl 956 2 "LassoFinderModel" "many" "[I" true := ⟨rfl, rfl, rfl⟩
theorem fr956 {g : zG} {v : Int} : zok g (2, v) → zokt g (zft 956) v := fun h => h
theorem fl957 : zfl 957 2 "LassoFinderModel" "message" "[I" true := ⟨rfl, rfl, rfl⟩
theorem fr957 {g : zG} {v : Int} : zok g (2, v) → zokt g (zft 957) v := fun h => h
theorem fl958 : zfl 958 2 "LassoFinderModel" "stands" "[I" true := ⟨rfl, rfl, rfl⟩
theorem fr958 {g : zG} {v : Int} : zok g (2, v) → zokt g (zft 958) v := fun h => h
theorem fl960 : zfl 960 2 "LassoFinderModel" "stack" "[I" true := ⟨rfl, rfl, rfl⟩
theorem fr960 {g : zG} {v : Int} : zok g (2, v) → zokt g (zft 960) v := fun h => h
theorem fl963 : zfl 963 2 "LassoFinderModel" "sign" "[I" true := ⟨rfl, rfl, rfl⟩
theorem fr963 {g : zG} {v : Int} : zok g (2, v) → zokt g (zft 963) v := fun h => h
theorem fl966 : zfl 966 2 "LassoFinderModel" "kept" "[I" true := ⟨rfl, rfl, rfl⟩
theorem fr966 {g : zG} {v : Int} : zok g (2, v) → zokt g (zft 966) v := fun h => h
theorem fl968 : zfl 968 2 "LassoFinderModel" "turn" "[I" true := ⟨rfl, rfl, rfl⟩
theorem fr968 {g : zG} {v : Int} : zok g (2, v) → zokt g (zft 968) v := fun h => h
theorem fl970 : zfl 970 2 "LassoFinderModel" "atomProcess" "[I" true := ⟨rfl, rfl, rfl⟩
theorem fr970 {g : zG} {v : Int} : zok g (2, v) → zokt g (zft 970) v := fun h => h
theorem fl971 : zfl 971 2 "LassoFinderModel" "atomPoint" "[I" true := ⟨rfl, rfl, rfl⟩
theorem fr971 {g : zG} {v : Int} : zok g (2, v) → zokt g (zft 971) v := fun h => h
theorem fl972 : zfl 972 2 "LassoFinderModel" "atomBegin" "[I" true := ⟨rfl, rfl, rfl⟩
theorem fr972 {g : zG} {v : Int} : zok g (2, v) → zokt g (zft 972) v := fun h => h
theorem fl973 : zfl 973 2 "LassoFinderModel" "atomEnd" "[I" true := ⟨rfl, rfl, rfl⟩
theorem fr973 {g : zG} {v : Int} : zok g (2, v) → zokt g (zft 973) v := fun h => h
theorem fl974 : zfl 974 2 "LassoFinderModel" "look" "[I" true := ⟨rfl, rfl, rfl⟩
theorem fr974 {g : zG} {v : Int} : zok g (2, v) → zokt g (zft 974) v := fun h => h
theorem fl975 : zfl 975 2 "LassoFinderModel" "deep" "[I" true := ⟨rfl, rfl, rfl⟩
theorem fr975 {g : zG} {v : Int} : zok g (2, v) → zokt g (zft 975) v := fun h => h
theorem fl976 : zfl 976 2 "LassoFinderModel" "good" "[Z" true := ⟨rfl, rfl, rfl⟩
theorem fr976 {g : zG} {v : Int} : zok g (2, v) → zokt g (zft 976) v := fun h => h
theorem fl977 : zfl 977 2 "LassoFinderModel" "far" "[I" true := ⟨rfl, rfl, rfl⟩
theorem fr977 {g : zG} {v : Int} : zok g (2, v) → zokt g (zft 977) v := fun h => h
theorem fl978 : zfl 978 0 "LassoFinderModel" "stem" "I" false := ⟨rfl, rfl, rfl⟩
theorem fr978 {g : zG} {v : Int} : zok g (0, v) → zokt g (zft 978) v := fun h => h
theorem fl980 : zfl 980 2 "LassoFinderModel" "row" "[I" true := ⟨rfl, rfl, rfl⟩
theorem fr980 {g : zG} {v : Int} : zok g (2, v) → zokt g (zft 980) v := fun h => h
theorem fl981 : zfl 981 2 "LassoFinderModel" "tried" "[I" true := ⟨rfl, rfl, rfl⟩
theorem fr981 {g : zG} {v : Int} : zok g (2, v) → zokt g (zft 981) v := fun h => h
theorem fl982 : zfl 982 0 "LassoFinderModel" "walked" "I" false := ⟨rfl, rfl, rfl⟩
theorem fr982 {g : zG} {v : Int} : zok g (0, v) → zokt g (zft 982) v := fun h => h
theorem fl983 : zfl 983 2 "LassoFinderModel" "path" "[I" true := ⟨rfl, rfl, rfl⟩
theorem fr983 {g : zG} {v : Int} : zok g (2, v) → zokt g (zft 983) v := fun h => h
abbrev cX9_init : ByteArray := prog_22_method_1_code
def yX9_init : MethodName := ⟨RX9, "<init>", "()V"⟩
theorem dX9_init_0 : decode cX9_init 0 = .ok (.aload_n 0, 1) := by decide +kernel
theorem dX9_init_1 : decode cX9_init 1 = .ok (.invokespecial 1, 3) := by decide +kernel
theorem dX9_init_4 : decode cX9_init 4 = .ok (.aload_n 0, 1) := by decide +kernel
theorem dX9_init_5 : decode cX9_init 5 = .ok (.sipush 240, 3) := by decide +kernel
theorem dX9_init_8 : decode cX9_init 8 = .ok (.newarray .int, 2) := by decide +kernel
theorem dX9_init_10 : decode cX9_init 10 = .ok (.putfield 7, 3) := by decide +kernel
theorem dX9_init_13 : decode cX9_init 13 = .ok (.aload_n 0, 1) := by decide +kernel
theorem dX9_init_14 : decode cX9_init 14 = .ok (.iconst (-1), 1) := by decide +kernel
theorem dX9_init_15 : decode cX9_init 15 = .ok (.putfield 13, 3) := by decide +kernel
theorem dX9_init_18 : decode cX9_init 18 = .ok (.aload_n 0, 1) := by decide +kernel
theorem dX9_init_19 : decode cX9_init 19 = .ok (.bipush 8, 2) := by decide +kernel
theorem dX9_init_21 : decode cX9_init 21 = .ok (.newarray .int, 2) := by decide +kernel
theorem dX9_init_23 : decode cX9_init 23 = .ok (.putfield 17, 3) := by decide +kernel
theorem dX9_init_26 : decode cX9_init 26 = .ok (.aload_n 0, 1) := by decide +kernel
theorem dX9_init_27 : decode cX9_init 27 = .ok (.bipush 8, 2) := by decide +kernel
theorem dX9_init_29 : decode cX9_init 29 = .ok (.newarray .int, 2) := by decide +kernel
theorem dX9_init_31 : decode cX9_init 31 = .ok (.putfield 20, 3) := by decide +kernel
theorem dX9_init_34 : decode cX9_init 34 = .ok (.aload_n 0, 1) := by decide +kernel
theorem dX9_init_35 : decode cX9_init 35 = .ok (.bipush 6, 2) := by decide +kernel
theorem dX9_init_37 : decode cX9_init 37 = .ok (.newarray .int, 2) := by decide +kernel
theorem dX9_init_39 : decode cX9_init 39 = .ok (.putfield 23, 3) := by decide +kernel
theorem dX9_init_42 : decode cX9_init 42 = .ok (.aload_n 0, 1) := by decide +kernel
theorem dX9_init_43 : decode cX9_init 43 = .ok (.iconst 2, 1) := by decide +kernel
theorem dX9_init_44 : decode cX9_init 44 = .ok (.newarray .int, 2) := by decide +kernel
theorem dX9_init_46 : decode cX9_init 46 = .ok (.putfield 26, 3) := by decide +kernel
theorem dX9_init_49 : decode cX9_init 49 = .ok (.aload_n 0, 1) := by decide +kernel
theorem dX9_init_50 : decode cX9_init 50 = .ok (.sipush 140, 3) := by decide +kernel
theorem dX9_init_53 : decode cX9_init 53 = .ok (.newarray .int, 2) := by decide +kernel
theorem dX9_init_55 : decode cX9_init 55 = .ok (.putfield 29, 3) := by decide +kernel
theorem dX9_init_58 : decode cX9_init 58 = .ok (.aload_n 0, 1) := by decide +kernel
theorem dX9_init_59 : decode cX9_init 59 = .ok (.sipush 140, 3) := by decide +kernel
theorem dX9_init_62 : decode cX9_init 62 = .ok (.newarray .int, 2) := by decide +kernel
theorem dX9_init_64 : decode cX9_init 64 = .ok (.putfield 32, 3) := by decide +kernel
theorem dX9_init_67 : decode cX9_init 67 = .ok (.aload_n 0, 1) := by decide +kernel
theorem dX9_init_68 : decode cX9_init 68 = .ok (.sipush 140, 3) := by decide +kernel
theorem dX9_init_71 : decode cX9_init 71 = .ok (.newarray .int, 2) := by decide +kernel
theorem dX9_init_73 : decode cX9_init 73 = .ok (.putfield 35, 3) := by decide +kernel
theorem dX9_init_76 : decode cX9_init 76 = .ok (.aload_n 0, 1) := by decide +kernel
theorem dX9_init_77 : decode cX9_init 77 = .ok (.sipush 140, 3) := by decide +kernel
theorem dX9_init_80 : decode cX9_init 80 = .ok (.newarray .int, 2) := by decide +kernel
theorem dX9_init_82 : decode cX9_init 82 = .ok (.putfield 38, 3) := by decide +kernel
theorem dX9_init_85 : decode cX9_init 85 = .ok (.aload_n 0, 1) := by decide +kernel
theorem dX9_init_86 : decode cX9_init 86 = .ok (.sipush 140, 3) := by decide +kernel
theorem dX9_init_89 : decode cX9_init 89 = .ok (.newarray .boolean, 2) := by decide +kernel
theorem dX9_init_91 : decode cX9_init 91 = .ok (.putfield 41, 3) := by decide +kernel
theorem dX9_init_94 : decode cX9_init 94 = .ok (.aload_n 0, 1) := by decide +kernel
theorem dX9_init_95 : decode cX9_init 95 = .ok (.sipush 140, 3) := by decide +kernel
theorem dX9_init_98 : decode cX9_init 98 = .ok (.newarray .int, 2) := by decide +kernel
theorem dX9_init_100 : decode cX9_init 100 = .ok (.putfield 45, 3) := by decide +kernel
theorem dX9_init_103 : decode cX9_init 103 = .ok (.aload_n 0, 1) := by decide +kernel
theorem dX9_init_104 : decode cX9_init 104 = .ok (.sipush 140, 3) := by decide +kernel
theorem dX9_init_107 : decode cX9_init 107 = .ok (.newarray .int, 2) := by decide +kernel
theorem dX9_init_109 : decode cX9_init 109 = .ok (.putfield 48, 3) := by decide +kernel
theorem dX9_init_112 : decode cX9_init 112 = .ok (.aload_n 0, 1) := by decide +kernel
theorem dX9_init_113 : decode cX9_init 113 = .ok (.sipush 140, 3) := by decide +kernel
theorem dX9_init_116 : decode cX9_init 116 = .ok (.newarray .int, 2) := by decide +kernel
theorem dX9_init_118 : decode cX9_init 118 = .ok (.putfield 51, 3) := by decide +kernel
theorem dX9_init_121 : decode cX9_init 121 = .ok (.aload_n 0, 1) := by decide +kernel
theorem dX9_init_122 : decode cX9_init 122 = .ok (.sipush 140, 3) := by decide +kernel
theorem dX9_init_125 : decode cX9_init 125 = .ok (.newarray .int, 2) := by decide +kernel
theorem dX9_init_127 : decode cX9_init 127 = .ok (.putfield 54, 3) := by decide +kernel
theorem dX9_init_130 : decode cX9_init 130 = .ok (.aload_n 0, 1) := by decide +kernel
theorem dX9_init_131 : decode cX9_init 131 = .ok (.sipush 140, 3) := by decide +kernel
theorem dX9_init_134 : decode cX9_init 134 = .ok (.newarray .int, 2) := by decide +kernel
theorem dX9_init_136 : decode cX9_init 136 = .ok (.putfield 57, 3) := by decide +kernel
theorem dX9_init_139 : decode cX9_init 139 = .ok (.aload_n 0, 1) := by decide +kernel
theorem dX9_init_140 : decode cX9_init 140 = .ok (.sipush 140, 3) := by decide +kernel
theorem dX9_init_143 : decode cX9_init 143 = .ok (.newarray .int, 2) := by decide +kernel
theorem dX9_init_145 : decode cX9_init 145 = .ok (.putfield 60, 3) := by decide +kernel
theorem dX9_init_148 : decode cX9_init 148 = .ok (.aload_n 0, 1) := by decide +kernel
theorem dX9_init_149 : decode cX9_init 149 = .ok (.sipush 140, 3) := by decide +kernel
theorem dX9_init_152 : decode cX9_init 152 = .ok (.newarray .int, 2) := by decide +kernel
theorem dX9_init_154 : decode cX9_init 154 = .ok (.putfield 63, 3) := by decide +kernel
theorem dX9_init_157 : decode cX9_init 157 = .ok (.aload_n 0, 1) := by decide +kernel
theorem dX9_init_158 : decode cX9_init 158 = .ok (.sipush 140, 3) := by decide +kernel
theorem dX9_init_161 : decode cX9_init 161 = .ok (.newarray .int, 2) := by decide +kernel
theorem dX9_init_163 : decode cX9_init 163 = .ok (.putfield 66, 3) := by decide +kernel
theorem dX9_init_166 : decode cX9_init 166 = .ok (.aload_n 0, 1) := by decide +kernel
theorem dX9_init_167 : decode cX9_init 167 = .ok (.bipush 48, 2) := by decide +kernel
theorem dX9_init_169 : decode cX9_init 169 = .ok (.newarray .int, 2) := by decide +kernel
theorem dX9_init_171 : decode cX9_init 171 = .ok (.putfield 69, 3) := by decide +kernel
theorem dX9_init_174 : decode cX9_init 174 = .ok (.aload_n 0, 1) := by decide +kernel
theorem dX9_init_175 : decode cX9_init 175 = .ok (.sipush 140, 3) := by decide +kernel
theorem dX9_init_178 : decode cX9_init 178 = .ok (.newarray .int, 2) := by decide +kernel
theorem dX9_init_180 : decode cX9_init 180 = .ok (.putfield 72, 3) := by decide +kernel
theorem dX9_init_183 : decode cX9_init 183 = .ok (.aload_n 0, 1) := by decide +kernel
theorem dX9_init_184 : decode cX9_init 184 = .ok (.iconst 5, 1) := by decide +kernel
theorem dX9_init_185 : decode cX9_init 185 = .ok (.newarray .int, 2) := by decide +kernel
theorem dX9_init_187 : decode cX9_init 187 = .ok (.putfield 75, 3) := by decide +kernel
theorem dX9_init_190 : decode cX9_init 190 = .ok (.aload_n 0, 1) := by decide +kernel
theorem dX9_init_191 : decode cX9_init 191 = .ok (.iconst 5, 1) := by decide +kernel
theorem dX9_init_192 : decode cX9_init 192 = .ok (.newarray .int, 2) := by decide +kernel
theorem dX9_init_194 : decode cX9_init 194 = .ok (.putfield 78, 3) := by decide +kernel
theorem dX9_init_197 : decode cX9_init 197 = .ok (.aload_n 0, 1) := by decide +kernel
theorem dX9_init_198 : decode cX9_init 198 = .ok (.bipush 32, 2) := by decide +kernel
theorem dX9_init_200 : decode cX9_init 200 = .ok (.newarray .int, 2) := by decide +kernel
theorem dX9_init_202 : decode cX9_init 202 = .ok (.putfield 81, 3) := by decide +kernel
theorem dX9_init_205 : decode cX9_init 205 = .ok (.aload_n 0, 1) := by decide +kernel
theorem dX9_init_206 : decode cX9_init 206 = .ok (.bipush 124, 2) := by decide +kernel
theorem dX9_init_208 : decode cX9_init 208 = .ok (.newarray .int, 2) := by decide +kernel
theorem dX9_init_210 : decode cX9_init 210 = .ok (.putfield 84, 3) := by decide +kernel
theorem dX9_init_213 : decode cX9_init 213 = .ok (.aload_n 0, 1) := by decide +kernel
theorem dX9_init_214 : decode cX9_init 214 = .ok (.bipush 124, 2) := by decide +kernel
theorem dX9_init_216 : decode cX9_init 216 = .ok (.newarray .long, 2) := by decide +kernel
theorem dX9_init_218 : decode cX9_init 218 = .ok (.putfield 87, 3) := by decide +kernel
theorem dX9_init_221 : decode cX9_init 221 = .ok (.aload_n 0, 1) := by decide +kernel
theorem dX9_init_222 : decode cX9_init 222 = .ok (.sipush 480, 3) := by decide +kernel
theorem dX9_init_225 : decode cX9_init 225 = .ok (.newarray .int, 2) := by decide +kernel
theorem dX9_init_227 : decode cX9_init 227 = .ok (.putfield 91, 3) := by decide +kernel
theorem dX9_init_230 : decode cX9_init 230 = .ok (.aload_n 0, 1) := by decide +kernel
theorem dX9_init_231 : decode cX9_init 231 = .ok (.bipush 8, 2) := by decide +kernel
theorem dX9_init_233 : decode cX9_init 233 = .ok (.newarray .int, 2) := by decide +kernel
theorem dX9_init_235 : decode cX9_init 235 = .ok (.putfield 94, 3) := by decide +kernel
theorem dX9_init_238 : decode cX9_init 238 = .ok (.aload_n 0, 1) := by decide +kernel
theorem dX9_init_239 : decode cX9_init 239 = .ok (.bipush 8, 2) := by decide +kernel
theorem dX9_init_241 : decode cX9_init 241 = .ok (.newarray .int, 2) := by decide +kernel
theorem dX9_init_243 : decode cX9_init 243 = .ok (.putfield 97, 3) := by decide +kernel
theorem dX9_init_246 : decode cX9_init 246 = .ok (.aload_n 0, 1) := by decide +kernel
theorem dX9_init_247 : decode cX9_init 247 = .ok (.bipush 8, 2) := by decide +kernel
theorem dX9_init_249 : decode cX9_init 249 = .ok (.newarray .int, 2) := by decide +kernel
theorem dX9_init_251 : decode cX9_init 251 = .ok (.putfield 100, 3) := by decide +kernel
theorem dX9_init_254 : decode cX9_init 254 = .ok (.aload_n 0, 1) := by decide +kernel
theorem dX9_init_255 : decode cX9_init 255 = .ok (.sipush 240, 3) := by decide +kernel
theorem dX9_init_258 : decode cX9_init 258 = .ok (.newarray .int, 2) := by decide +kernel
theorem dX9_init_260 : decode cX9_init 260 = .ok (.putfield 103, 3) := by decide +kernel
theorem dX9_init_263 : decode cX9_init 263 = .ok (.aload_n 0, 1) := by decide +kernel
theorem dX9_init_264 : decode cX9_init 264 = .ok (.bipush 97, 2) := by decide +kernel
theorem dX9_init_266 : decode cX9_init 266 = .ok (.newarray .long, 2) := by decide +kernel
theorem dX9_init_268 : decode cX9_init 268 = .ok (.putfield 106, 3) := by decide +kernel
theorem dX9_init_271 : decode cX9_init 271 = .ok (.aload_n 0, 1) := by decide +kernel
theorem dX9_init_272 : decode cX9_init 272 = .ok (.bipush 98, 2) := by decide +kernel
theorem dX9_init_274 : decode cX9_init 274 = .ok (.newarray .int, 2) := by decide +kernel
theorem dX9_init_276 : decode cX9_init 276 = .ok (.putfield 109, 3) := by decide +kernel
theorem dX9_init_279 : decode cX9_init 279 = .ok (.aload_n 0, 1) := by decide +kernel
theorem dX9_init_280 : decode cX9_init 280 = .ok (.sipush 401, 3) := by decide +kernel
theorem dX9_init_283 : decode cX9_init 283 = .ok (.newarray .int, 2) := by decide +kernel
theorem dX9_init_285 : decode cX9_init 285 = .ok (.putfield 112, 3) := by decide +kernel
theorem dX9_init_288 : decode cX9_init 288 = .ok (.aload_n 0, 1) := by decide +kernel
theorem dX9_init_289 : decode cX9_init 289 = .ok (.sipush 401, 3) := by decide +kernel
theorem dX9_init_292 : decode cX9_init 292 = .ok (.newarray .int, 2) := by decide +kernel
theorem dX9_init_294 : decode cX9_init 294 = .ok (.putfield 115, 3) := by decide +kernel
theorem dX9_init_297 : decode cX9_init 297 = .ok (.aload_n 0, 1) := by decide +kernel
theorem dX9_init_298 : decode cX9_init 298 = .ok (.sipush 401, 3) := by decide +kernel
theorem dX9_init_301 : decode cX9_init 301 = .ok (.newarray .int, 2) := by decide +kernel
theorem dX9_init_303 : decode cX9_init 303 = .ok (.putfield 118, 3) := by decide +kernel
theorem dX9_init_306 : decode cX9_init 306 = .ok (.aload_n 0, 1) := by decide +kernel
theorem dX9_init_307 : decode cX9_init 307 = .ok (.sipush 401, 3) := by decide +kernel
theorem dX9_init_310 : decode cX9_init 310 = .ok (.newarray .int, 2) := by decide +kernel
theorem dX9_init_312 : decode cX9_init 312 = .ok (.putfield 121, 3) := by decide +kernel
theorem dX9_init_315 : decode cX9_init 315 = .ok (.aload_n 0, 1) := by decide +kernel
theorem dX9_init_316 : decode cX9_init 316 = .ok (.bipush 98, 2) := by decide +kernel
theorem dX9_init_318 : decode cX9_init 318 = .ok (.newarray .int, 2) := by decide +kernel
theorem dX9_init_320 : decode cX9_init 320 = .ok (.putfield 124, 3) := by decide +kernel
theorem dX9_init_323 : decode cX9_init 323 = .ok (.aload_n 0, 1) := by decide +kernel
theorem dX9_init_324 : decode cX9_init 324 = .ok (.sipush 401, 3) := by decide +kernel
theorem dX9_init_327 : decode cX9_init 327 = .ok (.newarray .int, 2) := by decide +kernel
theorem dX9_init_329 : decode cX9_init 329 = .ok (.putfield 127, 3) := by decide +kernel
theorem dX9_init_332 : decode cX9_init 332 = .ok (.aload_n 0, 1) := by decide +kernel
theorem dX9_init_333 : decode cX9_init 333 = .ok (.bipush 6, 2) := by decide +kernel
theorem dX9_init_335 : decode cX9_init 335 = .ok (.newarray .int, 2) := by decide +kernel
theorem dX9_init_337 : decode cX9_init 337 = .ok (.putfield 130, 3) := by decide +kernel
theorem dX9_init_340 : decode cX9_init 340 = .ok (.aload_n 0, 1) := by decide +kernel
theorem dX9_init_341 : decode cX9_init 341 = .ok (.iconst 2, 1) := by decide +kernel
theorem dX9_init_342 : decode cX9_init 342 = .ok (.newarray .int, 2) := by decide +kernel
theorem dX9_init_344 : decode cX9_init 344 = .ok (.putfield 133, 3) := by decide +kernel
theorem dX9_init_347 : decode cX9_init 347 = .ok (.aload_n 0, 1) := by decide +kernel
theorem dX9_init_348 : decode cX9_init 348 = .ok (.bipush 6, 2) := by decide +kernel
theorem dX9_init_350 : decode cX9_init 350 = .ok (.newarray .int, 2) := by decide +kernel
theorem dX9_init_352 : decode cX9_init 352 = .ok (.putfield 136, 3) := by decide +kernel
theorem dX9_init_355 : decode cX9_init 355 = .ok (.aload_n 0, 1) := by decide +kernel
theorem dX9_init_356 : decode cX9_init 356 = .ok (.iconst 4, 1) := by decide +kernel
theorem dX9_init_357 : decode cX9_init 357 = .ok (.newarray .int, 2) := by decide +kernel
theorem dX9_init_359 : decode cX9_init 359 = .ok (.putfield 139, 3) := by decide +kernel
theorem dX9_init_362 : decode cX9_init 362 = .ok (.aload_n 0, 1) := by decide +kernel
theorem dX9_init_363 : decode cX9_init 363 = .ok (.sipush 240, 3) := by decide +kernel
theorem dX9_init_366 : decode cX9_init 366 = .ok (.newarray .int, 2) := by decide +kernel
theorem dX9_init_368 : decode cX9_init 368 = .ok (.putfield 142, 3) := by decide +kernel
theorem dX9_init_371 : decode cX9_init 371 = .ok (.aload_n 0, 1) := by decide +kernel
theorem dX9_init_372 : decode cX9_init 372 = .ok (.sipush 240, 3) := by decide +kernel
theorem dX9_init_375 : decode cX9_init 375 = .ok (.newarray .int, 2) := by decide +kernel
theorem dX9_init_377 : decode cX9_init 377 = .ok (.putfield 145, 3) := by decide +kernel
theorem dX9_init_380 : decode cX9_init 380 = .ok (.aload_n 0, 1) := by decide +kernel
theorem dX9_init_381 : decode cX9_init 381 = .ok (.sipush 240, 3) := by decide +kernel
theorem dX9_init_384 : decode cX9_init 384 = .ok (.newarray .int, 2) := by decide +kernel
theorem dX9_init_386 : decode cX9_init 386 = .ok (.putfield 148, 3) := by decide +kernel
theorem dX9_init_389 : decode cX9_init 389 = .ok (.aload_n 0, 1) := by decide +kernel
theorem dX9_init_390 : decode cX9_init 390 = .ok (.iconst 3, 1) := by decide +kernel
theorem dX9_init_391 : decode cX9_init 391 = .ok (.newarray .int, 2) := by decide +kernel
theorem dX9_init_393 : decode cX9_init 393 = .ok (.putfield 151, 3) := by decide +kernel
theorem dX9_init_396 : decode cX9_init 396 = .ok (.aload_n 0, 1) := by decide +kernel
theorem dX9_init_397 : decode cX9_init 397 = .ok (.bipush 8, 2) := by decide +kernel
theorem dX9_init_399 : decode cX9_init 399 = .ok (.newarray .int, 2) := by decide +kernel
theorem dX9_init_401 : decode cX9_init 401 = .ok (.putfield 154, 3) := by decide +kernel
theorem dX9_init_404 : decode cX9_init 404 = .ok (.aload_n 0, 1) := by decide +kernel
theorem dX9_init_405 : decode cX9_init 405 = .ok (.bipush 8, 2) := by decide +kernel
theorem dX9_init_407 : decode cX9_init 407 = .ok (.newarray .int, 2) := by decide +kernel
theorem dX9_init_409 : decode cX9_init 409 = .ok (.putfield 157, 3) := by decide +kernel
theorem dX9_init_412 : decode cX9_init 412 = .ok (.aload_n 0, 1) := by decide +kernel
theorem dX9_init_413 : decode cX9_init 413 = .ok (.bipush 8, 2) := by decide +kernel
theorem dX9_init_415 : decode cX9_init 415 = .ok (.newarray .int, 2) := by decide +kernel
theorem dX9_init_417 : decode cX9_init 417 = .ok (.putfield 160, 3) := by decide +kernel
theorem dX9_init_420 : decode cX9_init 420 = .ok (.aload_n 0, 1) := by decide +kernel
theorem dX9_init_421 : decode cX9_init 421 = .ok (.bipush 8, 2) := by decide +kernel
theorem dX9_init_423 : decode cX9_init 423 = .ok (.newarray .int, 2) := by decide +kernel
theorem dX9_init_425 : decode cX9_init 425 = .ok (.putfield 163, 3) := by decide +kernel
theorem dX9_init_428 : decode cX9_init 428 = .ok (.aload_n 0, 1) := by decide +kernel
theorem dX9_init_429 : decode cX9_init 429 = .ok (.sipush 768, 3) := by decide +kernel
theorem dX9_init_432 : decode cX9_init 432 = .ok (.newarray .int, 2) := by decide +kernel
theorem dX9_init_434 : decode cX9_init 434 = .ok (.putfield 166, 3) := by decide +kernel
theorem dX9_init_437 : decode cX9_init 437 = .ok (.aload_n 0, 1) := by decide +kernel
theorem dX9_init_438 : decode cX9_init 438 = .ok (.sipush 768, 3) := by decide +kernel
theorem dX9_init_441 : decode cX9_init 441 = .ok (.newarray .int, 2) := by decide +kernel
theorem dX9_init_443 : decode cX9_init 443 = .ok (.putfield 169, 3) := by decide +kernel
theorem dX9_init_446 : decode cX9_init 446 = .ok (.aload_n 0, 1) := by decide +kernel
theorem dX9_init_447 : decode cX9_init 447 = .ok (.sipush 768, 3) := by decide +kernel
theorem dX9_init_450 : decode cX9_init 450 = .ok (.newarray .boolean, 2) := by decide +kernel
theorem dX9_init_452 : decode cX9_init 452 = .ok (.putfield 172, 3) := by decide +kernel
theorem dX9_init_455 : decode cX9_init 455 = .ok (.aload_n 0, 1) := by decide +kernel
theorem dX9_init_456 : decode cX9_init 456 = .ok (.sipush 6144, 3) := by decide +kernel
theorem dX9_init_459 : decode cX9_init 459 = .ok (.newarray .int, 2) := by decide +kernel
theorem dX9_init_461 : decode cX9_init 461 = .ok (.putfield 175, 3) := by decide +kernel
theorem dX9_init_464 : decode cX9_init 464 = .ok (.aload_n 0, 1) := by decide +kernel
theorem dX9_init_465 : decode cX9_init 465 = .ok (.iconst (-1), 1) := by decide +kernel
theorem dX9_init_466 : decode cX9_init 466 = .ok (.putfield 178, 3) := by decide +kernel
theorem dX9_init_469 : decode cX9_init 469 = .ok (.aload_n 0, 1) := by decide +kernel
theorem dX9_init_470 : decode cX9_init 470 = .ok (.sipush 1280, 3) := by decide +kernel
theorem dX9_init_473 : decode cX9_init 473 = .ok (.newarray .int, 2) := by decide +kernel
theorem dX9_init_475 : decode cX9_init 475 = .ok (.putfield 181, 3) := by decide +kernel
theorem dX9_init_478 : decode cX9_init 478 = .ok (.aload_n 0, 1) := by decide +kernel
theorem dX9_init_479 : decode cX9_init 479 = .ok (.sipush 1024, 3) := by decide +kernel
theorem dX9_init_482 : decode cX9_init 482 = .ok (.newarray .int, 2) := by decide +kernel
theorem dX9_init_484 : decode cX9_init 484 = .ok (.putfield 184, 3) := by decide +kernel
theorem dX9_init_487 : decode cX9_init 487 = .ok (.aload_n 0, 1) := by decide +kernel
theorem dX9_init_488 : decode cX9_init 488 = .ok (.iconst (-1), 1) := by decide +kernel
theorem dX9_init_489 : decode cX9_init 489 = .ok (.putfield 187, 3) := by decide +kernel
theorem dX9_init_492 : decode cX9_init 492 = .ok (.aload_n 0, 1) := by decide +kernel
theorem dX9_init_493 : decode cX9_init 493 = .ok (.bipush 61, 2) := by decide +kernel
theorem dX9_init_495 : decode cX9_init 495 = .ok (.newarray .int, 2) := by decide +kernel
theorem dX9_init_497 : decode cX9_init 497 = .ok (.putfield 190, 3) := by decide +kernel
theorem dX9_init_500 : decode cX9_init 500 = .ok (.return_, 1) := by decide +kernel
abbrev MX9_init : zT := (yX9_init, cX9_init, 1, (Option.none : Option Jvm.ClassFile.FieldType), [])
theorem plX9_init : zplain MX9_init 0 ∧ (zcodeW MX9_init ∈ lw_all ∧ Cond.initialized MX9_init.1.cls ∈ lw_all) := ⟨⟨by decide +kernel, by decide +kernel⟩, q1880, q127⟩
noncomputable def f_X9_init (x0 : Int) (σ : zM) : Option zO :=
  zgd (decide (0 ≤ x0)) <|
  (znA σ 101 240).bind fun σ1 =>
  (zpf σ1 902 x0 (↑(zN σ) : Int)).bind fun σ2 =>
  (zpf σ2 905 x0 (-1)).bind fun σ3 =>
  (znA σ3 101 8).bind fun σ4 =>
  (zpf σ4 909 x0 (↑(zN σ3) : Int)).bind fun σ5 =>
  (znA σ5 101 8).bind fun σ6 =>
  (zpf σ6 910 x0 (↑(zN σ5) : Int)).bind fun σ7 =>
  (znA σ7 101 6).bind fun σ8 =>
  (zpf σ8 911 x0 (↑(zN σ7) : Int)).bind fun σ9 =>
  (znA σ9 101 2).bind fun σ10 =>
  (zpf σ10 912 x0 (↑(zN σ9) : Int)).bind fun σ11 =>
  (znA σ11 101 140).bind fun σ12 =>
  (zpf σ12 914 x0 (↑(zN σ11) : Int)).bind fun σ13 =>
  (znA σ13 101 140).bind fun σ14 =>
  (zpf σ14 915 x0 (↑(zN σ13) : Int)).bind fun σ15 =>
  (znA σ15 101 140).bind fun σ16 =>
  (zpf σ16 916 x0 (↑(zN σ15) : Int)).bind fun σ17 =>
  (znA σ17 101 140).bind fun σ18 =>
  (zpf σ18 917 x0 (↑(zN σ17) : Int)).bind fun σ19 =>
  (znA σ19 103 140).bind fun σ20 =>
  (zpf σ20 918 x0 (↑(zN σ19) : Int)).bind fun σ21 =>
  (znA σ21 101 140).bind fun σ22 =>
  (zpf σ22 919 x0 (↑(zN σ21) : Int)).bind fun σ23 =>
  (znA σ23 101 140).bind fun σ24 =>
  (zpf σ24 920 x0 (↑(zN σ23) : Int)).bind fun σ25 =>
  (znA σ25 101 140).bind fun σ26 =>
  (zpf σ26 921 x0 (↑(zN σ25) : Int)).bind fun σ27 =>
  (znA σ27 101 140).bind fun σ28 =>
  (zpf σ28 922 x0 (↑(zN σ27) : Int)).bind fun σ29 =>
  (znA σ29 101 140).bind fun σ30 =>
  (zpf σ30 923 x0 (↑(zN σ29) : Int)).bind fun σ31 =>
  (znA σ31 101 140).bind fun σ32 =>
  (zpf σ32 924 x0 (↑(zN σ31) : Int)).bind fun σ33 =>
  (znA σ33 101 140).bind fun σ34 =>
  (zpf σ34 925 x0 (↑(zN σ33) : Int)).bind fun σ35 =>
  (znA σ35 101 140).bind fun σ36 =>
  (zpf σ36 926 x0 (↑(zN σ35) : Int)).bind fun σ37 =>
  (znA σ37 101 48).bind fun σ38 =>
  (zpf σ38 928 x0 (↑(zN σ37) : Int)).bind fun σ39 =>
  (znA σ39 101 140).bind fun σ40 =>
  (zpf σ40 929 x0 (↑(zN σ39) : Int)).bind fun σ41 =>
  (znA σ41 101 5).bind fun σ42 =>
  (zpf σ42 931 x0 (↑(zN σ41) : Int)).bind fun σ43 =>
  (znA σ43 101 5).bind fun σ44 =>
  (zpf σ44 932 x0 (↑(zN σ43) : Int)).bind fun σ45 =>
  (znA σ45 101 32).bind fun σ46 =>
  (zpf σ46 933 x0 (↑(zN σ45) : Int)).bind fun σ47 =>
  (znA σ47 101 124).bind fun σ48 =>
  (zpf σ48 934 x0 (↑(zN σ47) : Int)).bind fun σ49 =>
  (znA σ49 102 124).bind fun σ50 =>
  (zpf σ50 935 x0 (↑(zN σ49) : Int)).bind fun σ51 =>
  (znA σ51 101 480).bind fun σ52 =>
  (zpf σ52 937 x0 (↑(zN σ51) : Int)).bind fun σ53 =>
  (znA σ53 101 8).bind fun σ54 =>
  (zpf σ54 939 x0 (↑(zN σ53) : Int)).bind fun σ55 =>
  (znA σ55 101 8).bind fun σ56 =>
  (zpf σ56 940 x0 (↑(zN σ55) : Int)).bind fun σ57 =>
  (znA σ57 101 8).bind fun σ58 =>
  (zpf σ58 941 x0 (↑(zN σ57) : Int)).bind fun σ59 =>
  (znA σ59 101 240).bind fun σ60 =>
  (zpf σ60 943 x0 (↑(zN σ59) : Int)).bind fun σ61 =>
  (znA σ61 102 97).bind fun σ62 =>
  (zpf σ62 947 x0 (↑(zN σ61) : Int)).bind fun σ63 =>
  (znA σ63 101 98).bind fun σ64 =>
  (zpf σ64 948 x0 (↑(zN σ63) : Int)).bind fun σ65 =>
  (znA σ65 101 401).bind fun σ66 =>
  (zpf σ66 949 x0 (↑(zN σ65) : Int)).bind fun σ67 =>
  (znA σ67 101 401).bind fun σ68 =>
  (zpf σ68 950 x0 (↑(zN σ67) : Int)).bind fun σ69 =>
  (znA σ69 101 401).bind fun σ70 =>
  (zpf σ70 951 x0 (↑(zN σ69) : Int)).bind fun σ71 =>
  (znA σ71 101 401).bind fun σ72 =>
  (zpf σ72 952 x0 (↑(zN σ71) : Int)).bind fun σ73 =>
  (znA σ73 101 98).bind fun σ74 =>
  (zpf σ74 953 x0 (↑(zN σ73) : Int)).bind fun σ75 =>
  (znA σ75 101 401).bind fun σ76 =>
  (zpf σ76 954 x0 (↑(zN σ75) : Int)).bind fun σ77 =>
  (znA σ77 101 6).bind fun σ78 =>
  (zpf σ78 955 x0 (↑(zN σ77) : Int)).bind fun σ79 =>
  (znA σ79 101 2).bind fun σ80 =>
  (zpf σ80 956 x0 (↑(zN σ79) : Int)).bind fun σ81 =>
  (znA σ81 101 6).bind fun σ82 =>
  (zpf σ82 957 x0 (↑(zN σ81) : Int)).bind fun σ83 =>
  (znA σ83 101 4).bind fun σ84 =>
  (zpf σ84 958 x0 (↑(zN σ83) : Int)).bind fun σ85 =>
  (znA σ85 101 240).bind fun σ86 =>
  (zpf σ86 960 x0 (↑(zN σ85) : Int)).bind fun σ87 =>
  (znA σ87 101 240).bind fun σ88 =>
  (zpf σ88 963 x0 (↑(zN σ87) : Int)).bind fun σ89 =>
  (znA σ89 101 240).bind fun σ90 =>
  (zpf σ90 966 x0 (↑(zN σ89) : Int)).bind fun σ91 =>
  (znA σ91 101 3).bind fun σ92 =>
  (zpf σ92 968 x0 (↑(zN σ91) : Int)).bind fun σ93 =>
  (znA σ93 101 8).bind fun σ94 =>
  (zpf σ94 970 x0 (↑(zN σ93) : Int)).bind fun σ95 =>
  (znA σ95 101 8).bind fun σ96 =>
  (zpf σ96 971 x0 (↑(zN σ95) : Int)).bind fun σ97 =>
  (znA σ97 101 8).bind fun σ98 =>
  (zpf σ98 972 x0 (↑(zN σ97) : Int)).bind fun σ99 =>
  (znA σ99 101 8).bind fun σ100 =>
  (zpf σ100 973 x0 (↑(zN σ99) : Int)).bind fun σ101 =>
  (znA σ101 101 768).bind fun σ102 =>
  (zpf σ102 974 x0 (↑(zN σ101) : Int)).bind fun σ103 =>
  (znA σ103 101 768).bind fun σ104 =>
  (zpf σ104 975 x0 (↑(zN σ103) : Int)).bind fun σ105 =>
  (znA σ105 103 768).bind fun σ106 =>
  (zpf σ106 976 x0 (↑(zN σ105) : Int)).bind fun σ107 =>
  (znA σ107 101 6144).bind fun σ108 =>
  (zpf σ108 977 x0 (↑(zN σ107) : Int)).bind fun σ109 =>
  (zpf σ109 978 x0 (-1)).bind fun σ110 =>
  (znA σ110 101 1280).bind fun σ111 =>
  (zpf σ111 980 x0 (↑(zN σ110) : Int)).bind fun σ112 =>
  (znA σ112 101 1024).bind fun σ113 =>
  (zpf σ113 981 x0 (↑(zN σ112) : Int)).bind fun σ114 =>
  (zpf σ114 982 x0 (-1)).bind fun σ115 =>
  (znA σ115 101 61).bind fun σ116 =>
  (zpf σ116 983 x0 (↑(zN σ115) : Int)).bind fun σ117 =>
  some (0, ((3, 0) : zV), σ117)
theorem c_X9_init {g : zG} {lv : Nat} {x0 : Int} {σ : zM} {out : zO} (h : f_X9_init x0 σ = some out) : Cj g (lv + 1) MX9_init [zr x0] σ out := by
  refine cj_go (ls := [(0, zr x0)]) (by decide) (Nat.le_of_ble_eq_true rfl) rfl (zgen h (fun r hk => ?_))
  unfold f_X9_init
  refine zst_ (gj_aload_n 0 (pc := 0) dX9_init_0 rfl) ?_
  refine gb_gd (fun hb => ?_)
  refine zst_ (gj_obj (pc := 1) (of_decide_eq_true hb) dX9_init_1 q1881 q152 q153 (by omega) (Nat.le_of_ble_eq_true rfl)) ?_
  refine zst_ (gj_aload_n 0 (pc := 4) dX9_init_4 rfl) ?_
  refine zst_ (gj_sipush (pc := 5) dX9_init_5 ⟨rfl, by decide⟩) ?_
  refine gb_newa (pc := 8) (k := 101) ⟨by decide, by decide⟩ rfl dX9_init_8 q228 (fun σ1 => ?_)
  refine gb_putFi (pc := 10) fl902 rfl rfl fr902 dX9_init_10 q1884 (Or.inl rfl) (fun σ2 => ?_)
  refine zst_ (gj_aload_n 0 (pc := 13) dX9_init_13 rfl) ?_
  refine zst_ (gj_iconst (pc := 14) dX9_init_14 (by decide)) ?_
  refine gb_put (pc := 15) fl905 fr905 dX9_init_15 q1887 (Or.inl rfl) (fun σ3 => ?_)
  refine zst_ (gj_aload_n 0 (pc := 18) dX9_init_18 rfl) ?_
  refine zst_ (gj_bipush (pc := 19) dX9_init_19 ⟨rfl, by decide⟩) ?_
  refine gb_newa (pc := 21) (k := 101) ⟨by decide, by decide⟩ rfl dX9_init_21 q228 (fun σ4 => ?_)
  refine gb_putFi (pc := 23) fl909 rfl rfl fr909 dX9_init_23 q1891 (Or.inl rfl) (fun σ5 => ?_)
  refine zst_ (gj_aload_n 0 (pc := 26) dX9_init_26 rfl) ?_
  refine zst_ (gj_bipush (pc := 27) dX9_init_27 ⟨rfl, by decide⟩) ?_
  refine gb_newa (pc := 29) (k := 101) ⟨by decide, by decide⟩ rfl dX9_init_29 q228 (fun σ6 => ?_)
  refine gb_putFi (pc := 31) fl910 rfl rfl fr910 dX9_init_31 q1892 (Or.inl rfl) (fun σ7 => ?_)
  refine zst_ (gj_aload_n 0 (pc := 34) dX9_init_34 rfl) ?_
  refine zst_ (gj_bipush (pc := 35) dX9_init_35 ⟨rfl, by decide⟩) ?_
  refine gb_newa (pc := 37) (k := 101) ⟨by decide, by decide⟩ rfl dX9_init_37 q228 (fun σ8 => ?_)
  refine gb_putFi (pc := 39) fl911 rfl rfl fr911 dX9_init_39 q1893 (Or.inl rfl) (fun σ9 => ?_)
  refine zst_ (gj_aload_n 0 (pc := 42) dX9_init_42 rfl) ?_
  refine zst_ (gj_iconst (pc := 43) dX9_init_43 (by decide)) ?_
  refine gb_newa (pc := 44) (k := 101) ⟨by decide, by decide⟩ rfl dX9_init_44 q228 (fun σ10 => ?_)
  refine gb_putFi (pc := 46) fl912 rfl rfl fr912 dX9_init_46 q1894 (Or.inl rfl) (fun σ11 => ?_)
  refine zst_ (gj_aload_n 0 (pc := 49) dX9_init_49 rfl) ?_
  refine zst_ (gj_sipush (pc := 50) dX9_init_50 ⟨rfl, by decide⟩) ?_
  refine gb_newa (pc := 53) (k := 101) ⟨by decide, by decide⟩ rfl dX9_init_53 q228 (fun σ12 => ?_)
  refine gb_putFi (pc := 55) fl914 rfl rfl fr914 dX9_init_55 q1896 (Or.inl rfl) (fun σ13 => ?_)
  refine zst_ (gj_aload_n 0 (pc := 58) dX9_init_58 rfl) ?_
  refine zst_ (gj_sipush (pc := 59) dX9_init_59 ⟨rfl, by decide⟩) ?_
  refine gb_newa (pc := 62) (k := 101) ⟨by decide, by decide⟩ rfl dX9_init_62 q228 (fun σ14 => ?_)
  refine gb_putFi (pc := 64) fl915 rfl rfl fr915 dX9_init_64 q1897 (Or.inl rfl) (fun σ15 => ?_)
  refine zst_ (gj_aload_n 0 (pc := 67) dX9_init_67 rfl) ?_
  refine zst_ (gj_sipush (pc := 68) dX9_init_68 ⟨rfl, by decide⟩) ?_
  refine gb_newa (pc := 71) (k := 101) ⟨by decide, by decide⟩ rfl dX9_init_71 q228 (fun σ16 => ?_)
  refine gb_putFi (pc := 73) fl916 rfl rfl fr916 dX9_init_73 q1898 (Or.inl rfl) (fun σ17 => ?_)
  refine zst_ (gj_aload_n 0 (pc := 76) dX9_init_76 rfl) ?_
  refine zst_ (gj_sipush (pc := 77) dX9_init_77 ⟨rfl, by decide⟩) ?_
  refine gb_newa (pc := 80) (k := 101) ⟨by decide, by decide⟩ rfl dX9_init_80 q228 (fun σ18 => ?_)
  refine gb_putFi (pc := 82) fl917 rfl rfl fr917 dX9_init_82 q1899 (Or.inl rfl) (fun σ19 => ?_)
  refine zst_ (gj_aload_n 0 (pc := 85) dX9_init_85 rfl) ?_
  refine zst_ (gj_sipush (pc := 86) dX9_init_86 ⟨rfl, by decide⟩) ?_
  refine gb_newa (pc := 89) (k := 103) ⟨by decide, by decide⟩ rfl dX9_init_89 q229 (fun σ20 => ?_)
  refine gb_putFi (pc := 91) fl918 rfl rfl fr918 dX9_init_91 q1900 (Or.inl rfl) (fun σ21 => ?_)
  refine zst_ (gj_aload_n 0 (pc := 94) dX9_init_94 rfl) ?_
  refine zst_ (gj_sipush (pc := 95) dX9_init_95 ⟨rfl, by decide⟩) ?_
  refine gb_newa (pc := 98) (k := 101) ⟨by decide, by decide⟩ rfl dX9_init_98 q228 (fun σ22 => ?_)
  refine gb_putFi (pc := 100) fl919 rfl rfl fr919 dX9_init_100 q1901 (Or.inl rfl) (fun σ23 => ?_)
  refine zst_ (gj_aload_n 0 (pc := 103) dX9_init_103 rfl) ?_
  refine zst_ (gj_sipush (pc := 104) dX9_init_104 ⟨rfl, by decide⟩) ?_
  refine gb_newa (pc := 107) (k := 101) ⟨by decide, by decide⟩ rfl dX9_init_107 q228 (fun σ24 => ?_)
  refine gb_putFi (pc := 109) fl920 rfl rfl fr920 dX9_init_109 q1902 (Or.inl rfl) (fun σ25 => ?_)
  refine zst_ (gj_aload_n 0 (pc := 112) dX9_init_112 rfl) ?_
  refine zst_ (gj_sipush (pc := 113) dX9_init_113 ⟨rfl, by decide⟩) ?_
  refine gb_newa (pc := 116) (k := 101) ⟨by decide, by decide⟩ rfl dX9_init_116 q228 (fun σ26 => ?_)
  refine gb_putFi (pc := 118) fl921 rfl rfl fr921 dX9_init_118 q1903 (Or.inl rfl) (fun σ27 => ?_)
  refine zst_ (gj_aload_n 0 (pc := 121) dX9_init_121 rfl) ?_
  refine zst_ (gj_sipush (pc := 122) dX9_init_122 ⟨rfl, by decide⟩) ?_
  refine gb_newa (pc := 125) (k := 101) ⟨by decide, by decide⟩ rfl dX9_init_125 q228 (fun σ28 => ?_)
  refine gb_putFi (pc := 127) fl922 rfl rfl fr922 dX9_init_127 q1904 (Or.inl rfl) (fun σ29 => ?_)
  refine zst_ (gj_aload_n 0 (pc := 130) dX9_init_130 rfl) ?_
  refine zst_ (gj_sipush (pc := 131) dX9_init_131 ⟨rfl, by decide⟩) ?_
  refine gb_newa (pc := 134) (k := 101) ⟨by decide, by decide⟩ rfl dX9_init_134 q228 (fun σ30 => ?_)
  refine gb_putFi (pc := 136) fl923 rfl rfl fr923 dX9_init_136 q1905 (Or.inl rfl) (fun σ31 => ?_)
  refine zst_ (gj_aload_n 0 (pc := 139) dX9_init_139 rfl) ?_
  refine zst_ (gj_sipush (pc := 140) dX9_init_140 ⟨rfl, by decide⟩) ?_
  refine gb_newa (pc := 143) (k := 101) ⟨by decide, by decide⟩ rfl dX9_init_143 q228 (fun σ32 => ?_)
  refine gb_putFi (pc := 145) fl924 rfl rfl fr924 dX9_init_145 q1906 (Or.inl rfl) (fun σ33 => ?_)
  refine zst_ (gj_aload_n 0 (pc := 148) dX9_init_148 rfl) ?_
  refine zst_ (gj_sipush (pc := 149) dX9_init_149 ⟨rfl, by decide⟩) ?_
  refine gb_newa (pc := 152) (k := 101) ⟨by decide, by decide⟩ rfl dX9_init_152 q228 (fun σ34 => ?_)
  refine gb_putFi (pc := 154) fl925 rfl rfl fr925 dX9_init_154 q1907 (Or.inl rfl) (fun σ35 => ?_)
  refine zst_ (gj_aload_n 0 (pc := 157) dX9_init_157 rfl) ?_
  refine zst_ (gj_sipush (pc := 158) dX9_init_158 ⟨rfl, by decide⟩) ?_
  refine gb_newa (pc := 161) (k := 101) ⟨by decide, by decide⟩ rfl dX9_init_161 q228 (fun σ36 => ?_)
  refine gb_putFi (pc := 163) fl926 rfl rfl fr926 dX9_init_163 q1908 (Or.inl rfl) (fun σ37 => ?_)
  refine zst_ (gj_aload_n 0 (pc := 166) dX9_init_166 rfl) ?_
  refine zst_ (gj_bipush (pc := 167) dX9_init_167 ⟨rfl, by decide⟩) ?_
  refine gb_newa (pc := 169) (k := 101) ⟨by decide, by decide⟩ rfl dX9_init_169 q228 (fun σ38 => ?_)
  refine gb_putFi (pc := 171) fl928 rfl rfl fr928 dX9_init_171 q1910 (Or.inl rfl) (fun σ39 => ?_)
  refine zst_ (gj_aload_n 0 (pc := 174) dX9_init_174 rfl) ?_
  refine zst_ (gj_sipush (pc := 175) dX9_init_175 ⟨rfl, by decide⟩) ?_
  refine gb_newa (pc := 178) (k := 101) ⟨by decide, by decide⟩ rfl dX9_init_178 q228 (fun σ40 => ?_)
  refine gb_putFi (pc := 180) fl929 rfl rfl fr929 dX9_init_180 q1911 (Or.inl rfl) (fun σ41 => ?_)
  refine zst_ (gj_aload_n 0 (pc := 183) dX9_init_183 rfl) ?_
  refine zst_ (gj_iconst (pc := 184) dX9_init_184 (by decide)) ?_
  refine gb_newa (pc := 185) (k := 101) ⟨by decide, by decide⟩ rfl dX9_init_185 q228 (fun σ42 => ?_)
  refine gb_putFi (pc := 187) fl931 rfl rfl fr931 dX9_init_187 q1913 (Or.inl rfl) (fun σ43 => ?_)
  refine zst_ (gj_aload_n 0 (pc := 190) dX9_init_190 rfl) ?_
  refine zst_ (gj_iconst (pc := 191) dX9_init_191 (by decide)) ?_
  refine gb_newa (pc := 192) (k := 101) ⟨by decide, by decide⟩ rfl dX9_init_192 q228 (fun σ44 => ?_)
  refine gb_putFi (pc := 194) fl932 rfl rfl fr932 dX9_init_194 q1914 (Or.inl rfl) (fun σ45 => ?_)
  refine zst_ (gj_aload_n 0 (pc := 197) dX9_init_197 rfl) ?_
  refine zst_ (gj_bipush (pc := 198) dX9_init_198 ⟨rfl, by decide⟩) ?_
  refine gb_newa (pc := 200) (k := 101) ⟨by decide, by decide⟩ rfl dX9_init_200 q228 (fun σ46 => ?_)
  refine gb_putFi (pc := 202) fl933 rfl rfl fr933 dX9_init_202 q1915 (Or.inl rfl) (fun σ47 => ?_)
  refine zst_ (gj_aload_n 0 (pc := 205) dX9_init_205 rfl) ?_
  refine zst_ (gj_bipush (pc := 206) dX9_init_206 ⟨rfl, by decide⟩) ?_
  refine gb_newa (pc := 208) (k := 101) ⟨by decide, by decide⟩ rfl dX9_init_208 q228 (fun σ48 => ?_)
  refine gb_putFi (pc := 210) fl934 rfl rfl fr934 dX9_init_210 q1916 (Or.inl rfl) (fun σ49 => ?_)
  refine zst_ (gj_aload_n 0 (pc := 213) dX9_init_213 rfl) ?_
  refine zst_ (gj_bipush (pc := 214) dX9_init_214 ⟨rfl, by decide⟩) ?_
  refine gb_newa (pc := 216) (k := 102) ⟨by decide, by decide⟩ rfl dX9_init_216 q267 (fun σ50 => ?_)
  refine gb_putFi (pc := 218) fl935 rfl rfl fr935 dX9_init_218 q1917 (Or.inl rfl) (fun σ51 => ?_)
  refine zst_ (gj_aload_n 0 (pc := 221) dX9_init_221 rfl) ?_
  refine zst_ (gj_sipush (pc := 222) dX9_init_222 ⟨rfl, by decide⟩) ?_
  refine gb_newa (pc := 225) (k := 101) ⟨by decide, by decide⟩ rfl dX9_init_225 q228 (fun σ52 => ?_)
  refine gb_putFi (pc := 227) fl937 rfl rfl fr937 dX9_init_227 q1919 (Or.inl rfl) (fun σ53 => ?_)
  refine zst_ (gj_aload_n 0 (pc := 230) dX9_init_230 rfl) ?_
  refine zst_ (gj_bipush (pc := 231) dX9_init_231 ⟨rfl, by decide⟩) ?_
  refine gb_newa (pc := 233) (k := 101) ⟨by decide, by decide⟩ rfl dX9_init_233 q228 (fun σ54 => ?_)
  refine gb_putFi (pc := 235) fl939 rfl rfl fr939 dX9_init_235 q1921 (Or.inl rfl) (fun σ55 => ?_)
  refine zst_ (gj_aload_n 0 (pc := 238) dX9_init_238 rfl) ?_
  refine zst_ (gj_bipush (pc := 239) dX9_init_239 ⟨rfl, by decide⟩) ?_
  refine gb_newa (pc := 241) (k := 101) ⟨by decide, by decide⟩ rfl dX9_init_241 q228 (fun σ56 => ?_)
  refine gb_putFi (pc := 243) fl940 rfl rfl fr940 dX9_init_243 q1922 (Or.inl rfl) (fun σ57 => ?_)
  refine zst_ (gj_aload_n 0 (pc := 246) dX9_init_246 rfl) ?_
  refine zst_ (gj_bipush (pc := 247) dX9_init_247 ⟨rfl, by decide⟩) ?_
  refine gb_newa (pc := 249) (k := 101) ⟨by decide, by decide⟩ rfl dX9_init_249 q228 (fun σ58 => ?_)
  refine gb_putFi (pc := 251) fl941 rfl rfl fr941 dX9_init_251 q1923 (Or.inl rfl) (fun σ59 => ?_)
  refine zst_ (gj_aload_n 0 (pc := 254) dX9_init_254 rfl) ?_
  refine zst_ (gj_sipush (pc := 255) dX9_init_255 ⟨rfl, by decide⟩) ?_
  refine gb_newa (pc := 258) (k := 101) ⟨by decide, by decide⟩ rfl dX9_init_258 q228 (fun σ60 => ?_)
  refine gb_putFi (pc := 260) fl943 rfl rfl fr943 dX9_init_260 q1925 (Or.inl rfl) (fun σ61 => ?_)
  refine zst_ (gj_aload_n 0 (pc := 263) dX9_init_263 rfl) ?_
  refine zst_ (gj_bipush (pc := 264) dX9_init_264 ⟨rfl, by decide⟩) ?_
  refine gb_newa (pc := 266) (k := 102) ⟨by decide, by decide⟩ rfl dX9_init_266 q267 (fun σ62 => ?_)
  refine gb_putFi (pc := 268) fl947 rfl rfl fr947 dX9_init_268 q1929 (Or.inl rfl) (fun σ63 => ?_)
  refine zst_ (gj_aload_n 0 (pc := 271) dX9_init_271 rfl) ?_
  refine zst_ (gj_bipush (pc := 272) dX9_init_272 ⟨rfl, by decide⟩) ?_
  refine gb_newa (pc := 274) (k := 101) ⟨by decide, by decide⟩ rfl dX9_init_274 q228 (fun σ64 => ?_)
  refine gb_putFi (pc := 276) fl948 rfl rfl fr948 dX9_init_276 q1930 (Or.inl rfl) (fun σ65 => ?_)
  refine zst_ (gj_aload_n 0 (pc := 279) dX9_init_279 rfl) ?_
  refine zst_ (gj_sipush (pc := 280) dX9_init_280 ⟨rfl, by decide⟩) ?_
  refine gb_newa (pc := 283) (k := 101) ⟨by decide, by decide⟩ rfl dX9_init_283 q228 (fun σ66 => ?_)
  refine gb_putFi (pc := 285) fl949 rfl rfl fr949 dX9_init_285 q1931 (Or.inl rfl) (fun σ67 => ?_)
  refine zst_ (gj_aload_n 0 (pc := 288) dX9_init_288 rfl) ?_
  refine zst_ (gj_sipush (pc := 289) dX9_init_289 ⟨rfl, by decide⟩) ?_
  refine gb_newa (pc := 292) (k := 101) ⟨by decide, by decide⟩ rfl dX9_init_292 q228 (fun σ68 => ?_)
  refine gb_putFi (pc := 294) fl950 rfl rfl fr950 dX9_init_294 q1932 (Or.inl rfl) (fun σ69 => ?_)
  refine zst_ (gj_aload_n 0 (pc := 297) dX9_init_297 rfl) ?_
  refine zst_ (gj_sipush (pc := 298) dX9_init_298 ⟨rfl, by decide⟩) ?_
  refine gb_newa (pc := 301) (k := 101) ⟨by decide, by decide⟩ rfl dX9_init_301 q228 (fun σ70 => ?_)
  refine gb_putFi (pc := 303) fl951 rfl rfl fr951 dX9_init_303 q1933 (Or.inl rfl) (fun σ71 => ?_)
  refine zst_ (gj_aload_n 0 (pc := 306) dX9_init_306 rfl) ?_
  refine zst_ (gj_sipush (pc := 307) dX9_init_307 ⟨rfl, by decide⟩) ?_
  refine gb_newa (pc := 310) (k := 101) ⟨by decide, by decide⟩ rfl dX9_init_310 q228 (fun σ72 => ?_)
  refine gb_putFi (pc := 312) fl952 rfl rfl fr952 dX9_init_312 q1934 (Or.inl rfl) (fun σ73 => ?_)
  refine zst_ (gj_aload_n 0 (pc := 315) dX9_init_315 rfl) ?_
  refine zst_ (gj_bipush (pc := 316) dX9_init_316 ⟨rfl, by decide⟩) ?_
  refine gb_newa (pc := 318) (k := 101) ⟨by decide, by decide⟩ rfl dX9_init_318 q228 (fun σ74 => ?_)
  refine gb_putFi (pc := 320) fl953 rfl rfl fr953 dX9_init_320 q1935 (Or.inl rfl) (fun σ75 => ?_)
  refine zst_ (gj_aload_n 0 (pc := 323) dX9_init_323 rfl) ?_
  refine zst_ (gj_sipush (pc := 324) dX9_init_324 ⟨rfl, by decide⟩) ?_
  refine gb_newa (pc := 327) (k := 101) ⟨by decide, by decide⟩ rfl dX9_init_327 q228 (fun σ76 => ?_)
  refine gb_putFi (pc := 329) fl954 rfl rfl fr954 dX9_init_329 q1936 (Or.inl rfl) (fun σ77 => ?_)
  refine zst_ (gj_aload_n 0 (pc := 332) dX9_init_332 rfl) ?_
  refine zst_ (gj_bipush (pc := 333) dX9_init_333 ⟨rfl, by decide⟩) ?_
  refine gb_newa (pc := 335) (k := 101) ⟨by decide, by decide⟩ rfl dX9_init_335 q228 (fun σ78 => ?_)
  refine gb_putFi (pc := 337) fl955 rfl rfl fr955 dX9_init_337 q1937 (Or.inl rfl) (fun σ79 => ?_)
  refine zst_ (gj_aload_n 0 (pc := 340) dX9_init_340 rfl) ?_
  refine zst_ (gj_iconst (pc := 341) dX9_init_341 (by decide)) ?_
  refine gb_newa (pc := 342) (k := 101) ⟨by decide, by decide⟩ rfl dX9_init_342 q228 (fun σ80 => ?_)
  refine gb_putFi (pc := 344) fl956 rfl rfl fr956 dX9_init_344 q1938 (Or.inl rfl) (fun σ81 => ?_)
  refine zst_ (gj_aload_n 0 (pc := 347) dX9_init_347 rfl) ?_
  refine zst_ (gj_bipush (pc := 348) dX9_init_348 ⟨rfl, by decide⟩) ?_
  refine gb_newa (pc := 350) (k := 101) ⟨by decide, by decide⟩ rfl dX9_init_350 q228 (fun σ82 => ?_)
  refine gb_putFi (pc := 352) fl957 rfl rfl fr957 dX9_init_352 q1939 (Or.inl rfl) (fun σ83 => ?_)
  refine zst_ (gj_aload_n 0 (pc := 355) dX9_init_355 rfl) ?_
  refine zst_ (gj_iconst (pc := 356) dX9_init_356 (by decide)) ?_
  refine gb_newa (pc := 357) (k := 101) ⟨by decide, by decide⟩ rfl dX9_init_357 q228 (fun σ84 => ?_)
  refine gb_putFi (pc := 359) fl958 rfl rfl fr958 dX9_init_359 q1940 (Or.inl rfl) (fun σ85 => ?_)
  refine zst_ (gj_aload_n 0 (pc := 362) dX9_init_362 rfl) ?_
  refine zst_ (gj_sipush (pc := 363) dX9_init_363 ⟨rfl, by decide⟩) ?_
  refine gb_newa (pc := 366) (k := 101) ⟨by decide, by decide⟩ rfl dX9_init_366 q228 (fun σ86 => ?_)
  refine gb_putFi (pc := 368) fl960 rfl rfl fr960 dX9_init_368 q1942 (Or.inl rfl) (fun σ87 => ?_)
  refine zst_ (gj_aload_n 0 (pc := 371) dX9_init_371 rfl) ?_
  refine zst_ (gj_sipush (pc := 372) dX9_init_372 ⟨rfl, by decide⟩) ?_
  refine gb_newa (pc := 375) (k := 101) ⟨by decide, by decide⟩ rfl dX9_init_375 q228 (fun σ88 => ?_)
  refine gb_putFi (pc := 377) fl963 rfl rfl fr963 dX9_init_377 q1945 (Or.inl rfl) (fun σ89 => ?_)
  refine zst_ (gj_aload_n 0 (pc := 380) dX9_init_380 rfl) ?_
  refine zst_ (gj_sipush (pc := 381) dX9_init_381 ⟨rfl, by decide⟩) ?_
  refine gb_newa (pc := 384) (k := 101) ⟨by decide, by decide⟩ rfl dX9_init_384 q228 (fun σ90 => ?_)
  refine gb_putFi (pc := 386) fl966 rfl rfl fr966 dX9_init_386 q1948 (Or.inl rfl) (fun σ91 => ?_)
  refine zst_ (gj_aload_n 0 (pc := 389) dX9_init_389 rfl) ?_
  refine zst_ (gj_iconst (pc := 390) dX9_init_390 (by decide)) ?_
  refine gb_newa (pc := 391) (k := 101) ⟨by decide, by decide⟩ rfl dX9_init_391 q228 (fun σ92 => ?_)
  refine gb_putFi (pc := 393) fl968 rfl rfl fr968 dX9_init_393 q1950 (Or.inl rfl) (fun σ93 => ?_)
  refine zst_ (gj_aload_n 0 (pc := 396) dX9_init_396 rfl) ?_
  refine zst_ (gj_bipush (pc := 397) dX9_init_397 ⟨rfl, by decide⟩) ?_
  refine gb_newa (pc := 399) (k := 101) ⟨by decide, by decide⟩ rfl dX9_init_399 q228 (fun σ94 => ?_)
  refine gb_putFi (pc := 401) fl970 rfl rfl fr970 dX9_init_401 q1952 (Or.inl rfl) (fun σ95 => ?_)
  refine zst_ (gj_aload_n 0 (pc := 404) dX9_init_404 rfl) ?_
  refine zst_ (gj_bipush (pc := 405) dX9_init_405 ⟨rfl, by decide⟩) ?_
  refine gb_newa (pc := 407) (k := 101) ⟨by decide, by decide⟩ rfl dX9_init_407 q228 (fun σ96 => ?_)
  refine gb_putFi (pc := 409) fl971 rfl rfl fr971 dX9_init_409 q1953 (Or.inl rfl) (fun σ97 => ?_)
  refine zst_ (gj_aload_n 0 (pc := 412) dX9_init_412 rfl) ?_
  refine zst_ (gj_bipush (pc := 413) dX9_init_413 ⟨rfl, by decide⟩) ?_
  refine gb_newa (pc := 415) (k := 101) ⟨by decide, by decide⟩ rfl dX9_init_415 q228 (fun σ98 => ?_)
  refine gb_putFi (pc := 417) fl972 rfl rfl fr972 dX9_init_417 q1954 (Or.inl rfl) (fun σ99 => ?_)
  refine zst_ (gj_aload_n 0 (pc := 420) dX9_init_420 rfl) ?_
  refine zst_ (gj_bipush (pc := 421) dX9_init_421 ⟨rfl, by decide⟩) ?_
  refine gb_newa (pc := 423) (k := 101) ⟨by decide, by decide⟩ rfl dX9_init_423 q228 (fun σ100 => ?_)
  refine gb_putFi (pc := 425) fl973 rfl rfl fr973 dX9_init_425 q1955 (Or.inl rfl) (fun σ101 => ?_)
  refine zst_ (gj_aload_n 0 (pc := 428) dX9_init_428 rfl) ?_
  refine zst_ (gj_sipush (pc := 429) dX9_init_429 ⟨rfl, by decide⟩) ?_
  refine gb_newa (pc := 432) (k := 101) ⟨by decide, by decide⟩ rfl dX9_init_432 q228 (fun σ102 => ?_)
  refine gb_putFi (pc := 434) fl974 rfl rfl fr974 dX9_init_434 q1956 (Or.inl rfl) (fun σ103 => ?_)
  refine zst_ (gj_aload_n 0 (pc := 437) dX9_init_437 rfl) ?_
  refine zst_ (gj_sipush (pc := 438) dX9_init_438 ⟨rfl, by decide⟩) ?_
  refine gb_newa (pc := 441) (k := 101) ⟨by decide, by decide⟩ rfl dX9_init_441 q228 (fun σ104 => ?_)
  refine gb_putFi (pc := 443) fl975 rfl rfl fr975 dX9_init_443 q1957 (Or.inl rfl) (fun σ105 => ?_)
  refine zst_ (gj_aload_n 0 (pc := 446) dX9_init_446 rfl) ?_
  refine zst_ (gj_sipush (pc := 447) dX9_init_447 ⟨rfl, by decide⟩) ?_
  refine gb_newa (pc := 450) (k := 103) ⟨by decide, by decide⟩ rfl dX9_init_450 q229 (fun σ106 => ?_)
  refine gb_putFi (pc := 452) fl976 rfl rfl fr976 dX9_init_452 q1958 (Or.inl rfl) (fun σ107 => ?_)
  refine zst_ (gj_aload_n 0 (pc := 455) dX9_init_455 rfl) ?_
  refine zst_ (gj_sipush (pc := 456) dX9_init_456 ⟨rfl, by decide⟩) ?_
  refine gb_newa (pc := 459) (k := 101) ⟨by decide, by decide⟩ rfl dX9_init_459 q228 (fun σ108 => ?_)
  refine gb_putFi (pc := 461) fl977 rfl rfl fr977 dX9_init_461 q1959 (Or.inl rfl) (fun σ109 => ?_)
  refine zst_ (gj_aload_n 0 (pc := 464) dX9_init_464 rfl) ?_
  refine zst_ (gj_iconst (pc := 465) dX9_init_465 (by decide)) ?_
  refine gb_put (pc := 466) fl978 fr978 dX9_init_466 q1960 (Or.inl rfl) (fun σ110 => ?_)
  refine zst_ (gj_aload_n 0 (pc := 469) dX9_init_469 rfl) ?_
  refine zst_ (gj_sipush (pc := 470) dX9_init_470 ⟨rfl, by decide⟩) ?_
  refine gb_newa (pc := 473) (k := 101) ⟨by decide, by decide⟩ rfl dX9_init_473 q228 (fun σ111 => ?_)
  refine gb_putFi (pc := 475) fl980 rfl rfl fr980 dX9_init_475 q1962 (Or.inl rfl) (fun σ112 => ?_)
  refine zst_ (gj_aload_n 0 (pc := 478) dX9_init_478 rfl) ?_
  refine zst_ (gj_sipush (pc := 479) dX9_init_479 ⟨rfl, by decide⟩) ?_
  refine gb_newa (pc := 482) (k := 101) ⟨by decide, by decide⟩ rfl dX9_init_482 q228 (fun σ113 => ?_)
  refine gb_putFi (pc := 484) fl981 rfl rfl fr981 dX9_init_484 q1963 (Or.inl rfl) (fun σ114 => ?_)
  refine zst_ (gj_aload_n 0 (pc := 487) dX9_init_487 rfl) ?_
  refine zst_ (gj_iconst (pc := 488) dX9_init_488 (by decide)) ?_
  refine gb_put (pc := 489) fl982 fr982 dX9_init_489 q1964 (Or.inl rfl) (fun σ115 => ?_)
  refine zst_ (gj_aload_n 0 (pc := 492) dX9_init_492 rfl) ?_
  refine zst_ (gj_bipush (pc := 493) dX9_init_493 ⟨rfl, by decide⟩) ?_
  refine gb_newa (pc := 495) (k := 101) ⟨by decide, by decide⟩ rfl dX9_init_495 q228 (fun σ116 => ?_)
  refine gb_putFi (pc := 497) fl983 rfl rfl fr983 dX9_init_497 q1965 (Or.inl rfl) (fun σ117 => ?_)
  intro h
  cases h
  have hk : (0, ((3, 0) : zV), σ117) = out := hk
  subst hk
  exact gj_vret (pc := 500) dX9_init_500 rfl
theorem q1882 : (Jvm.Cond.fieldLink "LassoFinderModel" (193 : Nat) "LassoFinderModel" "thrown" "I") ∈ lw_all := lw_g (lw_at lw_m8 102 rfl) rfl
theorem q2138 : (Jvm.Cond.code ({ cls := "LassoFinderModel", name := "thrown", desc := "()I" } : Jvm.MethodName) prog_22_method_2_code (1 : Nat) (Option.some Jvm.ClassFile.FieldType.int)) ∈ lw_all := lw_g (lw_at lw_m9 118 rfl) rfl
theorem fl900 : zfl 900 0 "LassoFinderModel" "thrown" "I" false := ⟨rfl, rfl, rfl⟩
theorem fr900 {g : zG} {v : Int} : zok g (0, v) → zokt g (zft 900) v := fun h => h
abbrev cX9_thrown : ByteArray := prog_22_method_2_code
def yX9_thrown : MethodName := ⟨RX9, "thrown", "()I"⟩
theorem dX9_thrown_0 : decode cX9_thrown 0 = .ok (.aload_n 0, 1) := by decide +kernel
theorem dX9_thrown_1 : decode cX9_thrown 1 = .ok (.getfield 193, 3) := by decide +kernel
theorem dX9_thrown_4 : decode cX9_thrown 4 = .ok (.ireturn, 1) := by decide +kernel
abbrev MX9_thrown : zT := (yX9_thrown, cX9_thrown, 1, (Option.some Jvm.ClassFile.FieldType.int), [])
theorem plX9_thrown : zplain MX9_thrown 0 ∧ (zcodeW MX9_thrown ∈ lw_all ∧ Cond.initialized MX9_thrown.1.cls ∈ lw_all) := ⟨⟨by decide +kernel, by decide +kernel⟩, q2138, q127⟩
noncomputable def f_X9_thrown (x0 : Int) (σ : zM) : Option zO :=
  (zgf σ 900 x0).bind fun v1 =>
  some (0, zi v1, σ)
theorem c_X9_thrown {g : zG} {lv : Nat} {x0 : Int} {σ : zM} {out : zO} (h : f_X9_thrown x0 σ = some out) : Cj g (lv) MX9_thrown [zr x0] σ out := by
  refine cj_go (ls := [(0, zr x0)]) (by decide) (Nat.le_of_ble_eq_true rfl) rfl (zgen h (fun r hk => ?_))
  unfold f_X9_thrown
  refine zst_ (gj_aload_n 0 (pc := 0) dX9_thrown_0 rfl) ?_
  refine gb_get (pc := 1) fl900 dX9_thrown_1 q1882 (Or.inl rfl) (fun v1 => ?_)
  intro h
  cases h
  have hk : (0, zi v1, σ) = out := hk
  subst hk
  exact gj_ret (pc := 4) (t := .int) dX9_thrown_4 rfl ⟨rfl, rfl⟩ (fun h => h)
theorem q2145 : (Jvm.Cond.code ({ cls := "LassoFinderModel", name := "in", desc := "(III)Z" } : Jvm.MethodName) prog_22_method_3_code (3 : Nat) (Option.some Jvm.ClassFile.FieldType.boolean)) ∈ lw_all := lw_g (lw_at lw_m9 125 rfl) rfl
abbrev cX9_in : ByteArray := prog_22_method_3_code
def yX9_in : MethodName := ⟨RX9, "in", "(III)Z"⟩
theorem dX9_in_0 : decode cX9_in 0 = .ok (.iload_n 0, 1) := by decide +kernel
theorem dX9_in_1 : decode cX9_in 1 = .ok (.iload_n 1, 1) := by decide +kernel
theorem dX9_in_2 : decode cX9_in 2 = .ok (.if_icmp .lt 12, 3) := by decide +kernel
theorem dX9_in_5 : decode cX9_in 5 = .ok (.iload_n 0, 1) := by decide +kernel
theorem dX9_in_6 : decode cX9_in 6 = .ok (.iload_n 2, 1) := by decide +kernel
theorem dX9_in_7 : decode cX9_in 7 = .ok (.if_icmp .gt 7, 3) := by decide +kernel
theorem dX9_in_10 : decode cX9_in 10 = .ok (.iconst 1, 1) := by decide +kernel
theorem dX9_in_11 : decode cX9_in 11 = .ok (.goto 4, 3) := by decide +kernel
theorem dX9_in_14 : decode cX9_in 14 = .ok (.iconst 0, 1) := by decide +kernel
theorem dX9_in_15 : decode cX9_in 15 = .ok (.ireturn, 1) := by decide +kernel
abbrev MX9_in : zT := (yX9_in, cX9_in, 3, (Option.some Jvm.ClassFile.FieldType.boolean), [])
theorem plX9_in : zplain MX9_in 3 ∧ (zcodeW MX9_in ∈ lw_all ∧ Cond.initialized MX9_in.1.cls ∈ lw_all) := ⟨⟨by decide +kernel, by decide +kernel⟩, q2145, q127⟩
noncomputable def f_X9_in_15 (t0 : Int) (σ : zM) : Option zO :=
  zgd (z01 t0) <|
  some (0, zi t0, σ)
theorem w_X9_in_15 {g : zG} {lv : Nat} {out : zO} (t0 : Int) (σ : zM) {r : zO} (h : f_X9_in_15 t0 σ = some r) (hk : (fun o : zO => o = out) r) : Gj g MX9_in (lv) 15 [] [zi t0] σ out := by
  revert h
  unfold f_X9_in_15
  refine gb_gd (fun hb => ?_)
  intro h
  cases h
  have hk : (0, zi t0, σ) = out := hk
  subst hk
  exact gj_ret (pc := 15) (t := .boolean) dX9_in_15 rfl ⟨rfl, rfl⟩ (fun _ => z01E hb)
noncomputable def f_X9_in_14 (σ : zM) : Option zO :=
  f_X9_in_15 0 σ
theorem w_X9_in_14 {g : zG} {lv : Nat} {out : zO} (σ : zM) {r : zO} (h : f_X9_in_14  σ = some r) (hk : (fun o : zO => o = out) r) : Gj g MX9_in (lv) 14 [] [] σ out := by
  revert h
  unfold f_X9_in_14
  refine zst_ (gj_iconst (pc := 14) dX9_in_14 (by decide)) ?_
  exact fun h => w_X9_in_15 0 σ h hk
noncomputable def f_X9_in (x0 x1 x2 : Int) (σ : zM) : Option zO :=
  if x0 < x1 then
    f_X9_in_14 σ
  else
    if x2 < x0 then
      f_X9_in_14 σ
    else
      f_X9_in_15 1 σ
theorem c_X9_in {g : zG} {lv : Nat} {x0 x1 x2 : Int} {σ : zM} {out : zO} (h : f_X9_in x0 x1 x2 σ = some out) : Cj g (lv) MX9_in [zi x0, zi x1, zi x2] σ out := by
  refine cj_go (ls := [(0, zi x0), (1, zi x1), (2, zi x2)]) (by decide) (Nat.le_of_ble_eq_true rfl) rfl (zgen h (fun r hk => ?_))
  unfold f_X9_in
  refine zst_ (gj_iload_n 0 (pc := 0) dX9_in_0 rfl) ?_
  refine zst_ (gj_iload_n 1 (pc := 1) dX9_in_1 rfl) ?_
  refine gb_if (gj_icmp_lt 14 (pc := 2) dX9_in_2 (by decide)) ?_ ?_
  · refine zst_ (gj_sub [] rfl) ?_
    exact fun h => w_X9_in_14 σ h hk
  · refine zst_ (gj_iload_n 0 (pc := 5) dX9_in_5 rfl) ?_
    refine zst_ (gj_iload_n 2 (pc := 6) dX9_in_6 rfl) ?_
    refine gb_if (gj_icmp_gt 14 (pc := 7) dX9_in_7 (by decide)) ?_ ?_
    · refine zst_ (gj_sub [] rfl) ?_
      exact fun h => w_X9_in_14 σ h hk
    · refine zst_ (gj_iconst (pc := 10) dX9_in_10 (by decide)) ?_
      refine zst_ (gj_goto 15 (pc := 11) dX9_in_11 (by decide)) ?_
      refine zst_ (gj_sub [] rfl) ?_
      exact fun h => w_X9_in_15 1 σ h hk
theorem q1883 : (Jvm.Cond.fieldLink "LassoFinderModel" (200 : Nat) "LassoFinderModel" "length" "I") ∈ lw_all := lw_g (lw_at lw_m8 103 rfl) rfl
theorem q2142 : (Jvm.Cond.code ({ cls := "LassoFinderModel", name := "write", desc := "(J)Z" } : Jvm.MethodName) prog_22_method_4_code (6 : Nat) (Option.some Jvm.ClassFile.FieldType.boolean)) ∈ lw_all := lw_g (lw_at lw_m9 122 rfl) rfl
theorem q2143 : (Jvm.Cond.methodLink "LassoFinderModel" (196 : Nat) ({ cls := "LassoFinderModel", name := "in", desc := "(III)Z" } : Jvm.MethodName)) ∈ lw_all := lw_g (lw_at lw_m9 123 rfl) rfl
theorem q2144 : (Jvm.Cond.static ({ cls := "LassoFinderModel", name := "in", desc := "(III)Z" } : Jvm.MethodName)) ∈ lw_all := lw_g (lw_at lw_m9 124 rfl) rfl
theorem fl901 : zfl 901 0 "LassoFinderModel" "length" "I" false := ⟨rfl, rfl, rfl⟩
theorem fr901 {g : zG} {v : Int} : zok g (0, v) → zokt g (zft 901) v := fun h => h
abbrev cX9_write : ByteArray := prog_22_method_4_code
def yX9_write : MethodName := ⟨RX9, "write", "(J)Z"⟩
theorem dX9_write_0 : decode cX9_write 0 = .ok (.aload_n 0, 1) := by decide +kernel
theorem dX9_write_1 : decode cX9_write 1 = .ok (.iconst 0, 1) := by decide +kernel
theorem dX9_write_2 : decode cX9_write 2 = .ok (.putfield 193, 3) := by decide +kernel
theorem dX9_write_5 : decode cX9_write 5 = .ok (.iconst 0, 1) := by decide +kernel
theorem dX9_write_6 : decode cX9_write 6 = .ok (.istore_n 3, 1) := by decide +kernel
theorem dX9_write_7 : decode cX9_write 7 = .ok (.bipush 56, 2) := by decide +kernel
theorem dX9_write_9 : decode cX9_write 9 = .ok (.istore 4, 2) := by decide +kernel
theorem dX9_write_11 : decode cX9_write 11 = .ok (.iload 4, 2) := by decide +kernel
theorem dX9_write_13 : decode cX9_write 13 = .ok (.ifCond .lt 52, 3) := by decide +kernel
theorem dX9_write_16 : decode cX9_write 16 = .ok (.lload_n 1, 1) := by decide +kernel
theorem dX9_write_17 : decode cX9_write 17 = .ok (.iload 4, 2) := by decide +kernel
theorem dX9_write_19 : decode cX9_write 19 = .ok (.lushr, 1) := by decide +kernel
theorem dX9_write_20 : decode cX9_write 20 = .ok (.l2i, 1) := by decide +kernel
theorem dX9_write_21 : decode cX9_write 21 = .ok (.sipush 255, 3) := by decide +kernel
theorem dX9_write_24 : decode cX9_write 24 = .ok (.iand, 1) := by decide +kernel
theorem dX9_write_25 : decode cX9_write 25 = .ok (.istore 5, 2) := by decide +kernel
theorem dX9_write_27 : decode cX9_write 27 = .ok (.iload 5, 2) := by decide +kernel
theorem dX9_write_29 : decode cX9_write 29 = .ok (.ifCond .eq 17, 3) := by decide +kernel
theorem dX9_write_32 : decode cX9_write 32 = .ok (.iload 5, 2) := by decide +kernel
theorem dX9_write_34 : decode cX9_write 34 = .ok (.bipush 33, 2) := by decide +kernel
theorem dX9_write_36 : decode cX9_write 36 = .ok (.bipush 126, 2) := by decide +kernel
theorem dX9_write_38 : decode cX9_write 38 = .ok (.invokestatic 196, 3) := by decide +kernel
theorem dX9_write_41 : decode cX9_write 41 = .ok (.ifCond .ne 5, 3) := by decide +kernel
theorem dX9_write_44 : decode cX9_write 44 = .ok (.iconst 0, 1) := by decide +kernel
theorem dX9_write_45 : decode cX9_write 45 = .ok (.ireturn, 1) := by decide +kernel
theorem dX9_write_46 : decode cX9_write 46 = .ok (.iload_n 3, 1) := by decide +kernel
theorem dX9_write_47 : decode cX9_write 47 = .ok (.iload 5, 2) := by decide +kernel
theorem dX9_write_49 : decode cX9_write 49 = .ok (.ifCond .eq 7, 3) := by decide +kernel
theorem dX9_write_52 : decode cX9_write 52 = .ok (.iconst 1, 1) := by decide +kernel
theorem dX9_write_53 : decode cX9_write 53 = .ok (.goto 4, 3) := by decide +kernel
theorem dX9_write_56 : decode cX9_write 56 = .ok (.iconst 0, 1) := by decide +kernel
theorem dX9_write_57 : decode cX9_write 57 = .ok (.iadd, 1) := by decide +kernel
theorem dX9_write_58 : decode cX9_write 58 = .ok (.istore_n 3, 1) := by decide +kernel
theorem dX9_write_59 : decode cX9_write 59 = .ok (.iinc 4 (-8), 3) := by decide +kernel
theorem dX9_write_62 : decode cX9_write 62 = .ok (.goto (-51), 3) := by decide +kernel
theorem dX9_write_65 : decode cX9_write 65 = .ok (.aload_n 0, 1) := by decide +kernel
theorem dX9_write_66 : decode cX9_write 66 = .ok (.getfield 200, 3) := by decide +kernel
theorem dX9_write_69 : decode cX9_write 69 = .ok (.iload_n 3, 1) := by decide +kernel
theorem dX9_write_70 : decode cX9_write 70 = .ok (.iadd, 1) := by decide +kernel
theorem dX9_write_71 : decode cX9_write 71 = .ok (.sipush 240, 3) := by decide +kernel
theorem dX9_write_74 : decode cX9_write 74 = .ok (.if_icmp .le 5, 3) := by decide +kernel
theorem dX9_write_77 : decode cX9_write 77 = .ok (.iconst 0, 1) := by decide +kernel
theorem dX9_write_78 : decode cX9_write 78 = .ok (.ireturn, 1) := by decide +kernel
theorem dX9_write_79 : decode cX9_write 79 = .ok (.bipush 56, 2) := by decide +kernel
theorem dX9_write_81 : decode cX9_write 81 = .ok (.istore 4, 2) := by decide +kernel
theorem dX9_write_83 : decode cX9_write 83 = .ok (.iload 4, 2) := by decide +kernel
theorem dX9_write_85 : decode cX9_write 85 = .ok (.ifCond .lt 46, 3) := by decide +kernel
theorem dX9_write_88 : decode cX9_write 88 = .ok (.lload_n 1, 1) := by decide +kernel
theorem dX9_write_89 : decode cX9_write 89 = .ok (.iload 4, 2) := by decide +kernel
theorem dX9_write_91 : decode cX9_write 91 = .ok (.lushr, 1) := by decide +kernel
theorem dX9_write_92 : decode cX9_write 92 = .ok (.l2i, 1) := by decide +kernel
theorem dX9_write_93 : decode cX9_write 93 = .ok (.sipush 255, 3) := by decide +kernel
theorem dX9_write_96 : decode cX9_write 96 = .ok (.iand, 1) := by decide +kernel
theorem dX9_write_97 : decode cX9_write 97 = .ok (.istore 5, 2) := by decide +kernel
theorem dX9_write_99 : decode cX9_write 99 = .ok (.iload 5, 2) := by decide +kernel
theorem dX9_write_101 : decode cX9_write 101 = .ok (.ifCond .eq 24, 3) := by decide +kernel
theorem dX9_write_104 : decode cX9_write 104 = .ok (.aload_n 0, 1) := by decide +kernel
theorem dX9_write_105 : decode cX9_write 105 = .ok (.getfield 7, 3) := by decide +kernel
theorem dX9_write_108 : decode cX9_write 108 = .ok (.aload_n 0, 1) := by decide +kernel
theorem dX9_write_109 : decode cX9_write 109 = .ok (.getfield 200, 3) := by decide +kernel
theorem dX9_write_112 : decode cX9_write 112 = .ok (.iload 5, 2) := by decide +kernel
theorem dX9_write_114 : decode cX9_write 114 = .ok (.iastore, 1) := by decide +kernel
theorem dX9_write_115 : decode cX9_write 115 = .ok (.aload_n 0, 1) := by decide +kernel
theorem dX9_write_116 : decode cX9_write 116 = .ok (.dup, 1) := by decide +kernel
theorem dX9_write_117 : decode cX9_write 117 = .ok (.getfield 200, 3) := by decide +kernel
theorem dX9_write_120 : decode cX9_write 120 = .ok (.iconst 1, 1) := by decide +kernel
theorem dX9_write_121 : decode cX9_write 121 = .ok (.iadd, 1) := by decide +kernel
theorem dX9_write_122 : decode cX9_write 122 = .ok (.putfield 200, 3) := by decide +kernel
theorem dX9_write_125 : decode cX9_write 125 = .ok (.iinc 4 (-8), 3) := by decide +kernel
theorem dX9_write_128 : decode cX9_write 128 = .ok (.goto (-45), 3) := by decide +kernel
theorem dX9_write_131 : decode cX9_write 131 = .ok (.iconst 1, 1) := by decide +kernel
theorem dX9_write_132 : decode cX9_write 132 = .ok (.ireturn, 1) := by decide +kernel
abbrev MX9_write : zT := (yX9_write, cX9_write, 6, (Option.some Jvm.ClassFile.FieldType.boolean), [])
theorem plX9_write : zplain MX9_write 1 ∧ (zcodeW MX9_write ∈ lw_all ∧ Cond.initialized MX9_write.1.cls ∈ lw_all) := ⟨⟨by decide +kernel, by decide +kernel⟩, q2142, q127⟩
noncomputable def f_X9_write_131 (σ : zM) : Option zO :=
  zgd (z01 1) <|
  some (0, zi 1, σ)
theorem w_X9_write_131 {g : zG} {lv : Nat} {out : zO} (σ : zM) {r : zO} (h : f_X9_write_131  σ = some r) (hk : (fun o : zO => o = out) r) : Gj g MX9_write (lv + 1) 131 [] [] σ out := by
  revert h
  unfold f_X9_write_131
  refine zst_ (gj_iconst (pc := 131) dX9_write_131 (by decide)) ?_
  refine gb_gd (fun hb => ?_)
  intro h
  cases h
  have hk : (0, zi 1, σ) = out := hk
  subst hk
  exact gj_ret (pc := 132) (t := .boolean) dX9_write_132 rfl ⟨rfl, rfl⟩ (fun _ => z01E hb)
noncomputable def f_X9_write_125 (x0 x1 x4 : Int) (σ : zM) : Option ((Int × zM) ⊕ zO) :=
  zlet (zadd x4 (-8)) fun y1 =>
  some (.inl (y1, σ))
theorem w_X9_write_125 {g : zG} {lv : Nat} {out : zO} (x0 x1 x4 : Int) (σ : zM) {r : ((Int × zM) ⊕ zO)} (h : f_X9_write_125 x0 x1 x4 σ = some r) (hk : (zKL (fun s : Int × zM => Gj g MX9_write (lv + 1) 83 [(0, zr x0), (1, zj x1), (4, zi s.1)] [] s.2 out) (fun o : zO => o = out)) r) : Gj g MX9_write (lv + 1) 125 [(0, zr x0), (1, zj x1), (4, zi x4)] [] σ out := by
  revert h
  unfold f_X9_write_125
  refine gb_iinc (pc := 125) 2 (fun y1 => [(4, zi y1), (0, zr x0), (1, zj x1)]) dX9_write_125 rfl (by decide) (fun _ => rfl) (fun y1 => ?_)
  refine zst_ (gj_goto 83 (pc := 128) dX9_write_128 (by decide)) ?_
  refine zst_ (gj_sub [1, 2, 0] rfl) ?_
  intro h
  cases h
  exact hk
noncomputable def f_X9_write_83_b (x0 x1 x4 : Int) (σ : zM) : Option ((Int × zM) ⊕ zO) :=
  if x4 < 0 then
    (f_X9_write_131 σ).map (fun r => (.inr r))
  else
    zlet ((zand (zl2i (jushr x1 x4)) 255)) fun y1 =>
    if y1 = 0 then
      f_X9_write_125 x0 x1 x4 σ
    else
      (zgf σ 902 x0).bind fun v2 =>
      (zgf σ 901 x0).bind fun v3 =>
      (zpa σ 101 v2 v3 y1).bind fun σ4 =>
      (zgf σ4 901 x0).bind fun v5 =>
      (zpf σ4 901 x0 (zadd v5 1)).bind fun σ6 =>
      f_X9_write_125 x0 x1 x4 σ6
noncomputable def f_X9_write_83 (x0 x1 x4 : Int) (σ : zM) : Option zO :=
  zloop (fun s : Int × zM => f_X9_write_83_b x0 x1 s.1 s.2) (x4, σ)
theorem w_X9_write_83_b {g : zG} {lv : Nat} {out : zO} (x0 x1 x4 : Int) (σ : zM) {r : ((Int × zM) ⊕ zO)} (h : f_X9_write_83_b x0 x1 x4 σ = some r) (hk : (zKL (fun s : Int × zM => Gj g MX9_write (lv + 1) 83 [(0, zr x0), (1, zj x1), (4, zi s.1)] [] s.2 out) (fun o : zO => o = out)) r) : Gj g MX9_write (lv + 1) 83 [(0, zr x0), (1, zj x1), (4, zi x4)] [] σ out := by
  revert h
  unfold f_X9_write_83_b
  refine zst_ (gj_iload 2 (pc := 83) dX9_write_83 rfl) ?_
  refine gb_if (gj_if_lt 131 (pc := 85) dX9_write_85 (by decide)) ?_ ?_
  · refine zst_ (gj_sub [] rfl) ?_
    intro h
    obtain ⟨r0, h0, rfl⟩ := zmE h
    exact w_X9_write_131 σ h0 hk
  · refine zst_ (gj_lload_n 1 (pc := 88) dX9_write_88 rfl) ?_
    refine zst_ (gj_iload 2 (pc := 89) dX9_write_89 rfl) ?_
    refine zst_ (gj_lushr (pc := 91) dX9_write_91) ?_
    refine zst_ (gj_l2i (pc := 92) dX9_write_92) ?_
    refine zst_ (gj_sipush (pc := 93) dX9_write_93 ⟨rfl, by decide⟩) ?_
    refine zst_ (gj_iand (pc := 96) dX9_write_96) ?_
    refine gb_let (fun y1 => ?_)
    refine zst_ (gj_istore (pc := 97) (ls' := [(5, zi y1), (0, zr x0), (1, zj x1), (4, zi x4)]) dX9_write_97 (by decide) rfl) ?_
    refine zst_ (gj_iload 0 (pc := 99) dX9_write_99 rfl) ?_
    refine gb_if (gj_if_eq 125 (pc := 101) dX9_write_101 (by decide)) ?_ ?_
    · refine zst_ (gj_sub [1, 2, 3] rfl) ?_
      exact fun h => w_X9_write_125 x0 x1 x4 σ h hk
    · refine zst_ (gj_aload_n 1 (pc := 104) dX9_write_104 rfl) ?_
      refine gb_get (pc := 105) fl902 dX9_write_105 q1884 (Or.inl rfl) (fun v2 => ?_)
      refine zst_ (gj_aload_n 1 (pc := 108) dX9_write_108 rfl) ?_
      refine gb_get (pc := 109) fl901 dX9_write_109 q1883 (Or.inl rfl) (fun v3 => ?_)
      refine zst_ (gj_iload 0 (pc := 112) dX9_write_112 rfl) ?_
      refine gb_iast (pc := 114) dX9_write_114 (fun σ4 => ?_)
      refine zst_ (gj_aload_n 1 (pc := 115) dX9_write_115 rfl) ?_
      refine zst_ (gj_dup (pc := 116) dX9_write_116 rfl) ?_
      refine gb_get (pc := 117) fl901 dX9_write_117 q1883 (Or.inl rfl) (fun v5 => ?_)
      refine zst_ (gj_iconst (pc := 120) dX9_write_120 (by decide)) ?_
      refine zst_ (gj_iadd (pc := 121) dX9_write_121) ?_
      refine gb_put (pc := 122) fl901 fr901 dX9_write_122 q1883 (Or.inl rfl) (fun σ6 => ?_)
      refine zst_ (gj_sub [1, 2, 3] rfl) ?_
      exact fun h => w_X9_write_125 x0 x1 x4 σ6 h hk
theorem w_X9_write_83 {g : zG} {lv : Nat} {out : zO} (x0 x1 x4 : Int) (σ : zM) {r : zO} (h : f_X9_write_83 x0 x1 x4 σ = some r) (hk : (fun o : zO => o = out) r) : Gj g MX9_write (lv + 1) 83 [(0, zr x0), (1, zj x1), (4, zi x4)] [] σ out :=
  gj_loop (P := (fun s : Int × zM => Gj g MX9_write (lv + 1) 83 [(0, zr x0), (1, zj x1), (4, zi s.1)] [] s.2 out)) (fun s x hb hx => w_X9_write_83_b x0 x1 s.1 s.2 hb hx) h hk
noncomputable def f_X9_write_65 (x0 x1 x3 : Int) (σ : zM) : Option zO :=
  (zgf σ 901 x0).bind fun v1 =>
  if (zadd v1 x3) ≤ 240 then
    f_X9_write_83 x0 x1 56 σ
  else
    zgd (z01 0) <|
    some (0, zi 0, σ)
theorem w_X9_write_65 {g : zG} {lv : Nat} {out : zO} (x0 x1 x3 : Int) (σ : zM) {r : zO} (h : f_X9_write_65 x0 x1 x3 σ = some r) (hk : (fun o : zO => o = out) r) : Gj g MX9_write (lv + 1) 65 [(0, zr x0), (1, zj x1), (3, zi x3)] [] σ out := by
  revert h
  unfold f_X9_write_65
  refine zst_ (gj_aload_n 0 (pc := 65) dX9_write_65 rfl) ?_
  refine gb_get (pc := 66) fl901 dX9_write_66 q1883 (Or.inl rfl) (fun v1 => ?_)
  refine zst_ (gj_iload_n 2 (pc := 69) dX9_write_69 rfl) ?_
  refine zst_ (gj_iadd (pc := 70) dX9_write_70) ?_
  refine zst_ (gj_sipush (pc := 71) dX9_write_71 ⟨rfl, by decide⟩) ?_
  refine gb_if (gj_icmp_le 79 (pc := 74) dX9_write_74 (by decide)) ?_ ?_
  · refine zst_ (gj_bipush (pc := 79) dX9_write_79 ⟨rfl, by decide⟩) ?_
    refine zst_ (gj_istore (pc := 81) (ls' := [(4, zi 56), (0, zr x0), (1, zj x1), (3, zi x3)]) dX9_write_81 (by decide) rfl) ?_
    refine zst_ (gj_sub [1, 2, 0] rfl) ?_
    exact fun h => w_X9_write_83 x0 x1 56 σ h hk
  · refine zst_ (gj_iconst (pc := 77) dX9_write_77 (by decide)) ?_
    refine gb_gd (fun hb => ?_)
    intro h
    cases h
    have hk : (0, zi 0, σ) = out := hk
    subst hk
    exact gj_ret (pc := 78) (t := .boolean) dX9_write_78 rfl ⟨rfl, rfl⟩ (fun _ => z01E hb)
noncomputable def f_X9_write_57 (x0 x1 x4 t0 t1 : Int) (σ : zM) : Option ((Int × Int × zM) ⊕ zO) :=
  zlet ((zadd t1 t0)) fun y1 =>
  zlet (zadd x4 (-8)) fun y2 =>
  some (.inl (y1, y2, σ))
theorem w_X9_write_57 {g : zG} {lv : Nat} {out : zO} (x0 x1 x4 t0 t1 : Int) (σ : zM) {r : ((Int × Int × zM) ⊕ zO)} (h : f_X9_write_57 x0 x1 x4 t0 t1 σ = some r) (hk : (zKL (fun s : Int × Int × zM => Gj g MX9_write (lv + 1) 11 [(0, zr x0), (1, zj x1), (3, zi s.1), (4, zi s.2.1)] [] s.2.2 out) (fun o : zO => o = out)) r) : Gj g MX9_write (lv + 1) 57 [(0, zr x0), (1, zj x1), (4, zi x4)] [zi t0, zi t1] σ out := by
  revert h
  unfold f_X9_write_57
  refine zst_ (gj_iadd (pc := 57) dX9_write_57) ?_
  refine gb_let (fun y1 => ?_)
  refine zst_ (gj_istore_n (pc := 58) (ls' := [(3, zi y1), (0, zr x0), (1, zj x1), (4, zi x4)]) dX9_write_58 (by decide) rfl) ?_
  refine gb_iinc (pc := 59) 3 (fun y2 => [(4, zi y2), (3, zi y1), (0, zr x0), (1, zj x1)]) dX9_write_59 rfl (by decide) (fun _ => rfl) (fun y2 => ?_)
  refine zst_ (gj_goto 11 (pc := 62) dX9_write_62 (by decide)) ?_
  refine zst_ (gj_sub [2, 3, 1, 0] rfl) ?_
  intro h
  cases h
  exact hk
noncomputable def f_X9_write_46 (x0 x1 x3 x4 x5 : Int) (σ : zM) : Option ((Int × Int × zM) ⊕ zO) :=
  if x5 = 0 then
    f_X9_write_57 x0 x1 x4 0 x3 σ
  else
    f_X9_write_57 x0 x1 x4 1 x3 σ
theorem w_X9_write_46 {g : zG} {lv : Nat} {out : zO} (x0 x1 x3 x4 x5 : Int) (σ : zM) {r : ((Int × Int × zM) ⊕ zO)} (h : f_X9_write_46 x0 x1 x3 x4 x5 σ = some r) (hk : (zKL (fun s : Int × Int × zM => Gj g MX9_write (lv + 1) 11 [(0, zr x0), (1, zj x1), (3, zi s.1), (4, zi s.2.1)] [] s.2.2 out) (fun o : zO => o = out)) r) : Gj g MX9_write (lv + 1) 46 [(0, zr x0), (1, zj x1), (3, zi x3), (4, zi x4), (5, zi x5)] [] σ out := by
  revert h
  unfold f_X9_write_46
  refine zst_ (gj_iload_n 2 (pc := 46) dX9_write_46 rfl) ?_
  refine zst_ (gj_iload 4 (pc := 47) dX9_write_47 rfl) ?_
  refine gb_if (gj_if_eq 56 (pc := 49) dX9_write_49 (by decide)) ?_ ?_
  · refine zst_ (gj_iconst (pc := 56) dX9_write_56 (by decide)) ?_
    refine zst_ (gj_sub [0, 1, 3] rfl) ?_
    exact fun h => w_X9_write_57 x0 x1 x4 0 x3 σ h hk
  · refine zst_ (gj_iconst (pc := 52) dX9_write_52 (by decide)) ?_
    refine zst_ (gj_goto 57 (pc := 53) dX9_write_53 (by decide)) ?_
    refine zst_ (gj_sub [0, 1, 3] rfl) ?_
    exact fun h => w_X9_write_57 x0 x1 x4 1 x3 σ h hk
noncomputable def f_X9_write_44 (σ : zM) : Option zO :=
  zgd (z01 0) <|
  some (0, zi 0, σ)
theorem w_X9_write_44 {g : zG} {lv : Nat} {out : zO} (σ : zM) {r : zO} (h : f_X9_write_44  σ = some r) (hk : (fun o : zO => o = out) r) : Gj g MX9_write (lv + 1) 44 [] [] σ out := by
  revert h
  unfold f_X9_write_44
  refine zst_ (gj_iconst (pc := 44) dX9_write_44 (by decide)) ?_
  refine gb_gd (fun hb => ?_)
  intro h
  cases h
  have hk : (0, zi 0, σ) = out := hk
  subst hk
  exact gj_ret (pc := 45) (t := .boolean) dX9_write_45 rfl ⟨rfl, rfl⟩ (fun _ => z01E hb)
noncomputable def f_X9_write_11_b (x0 x1 x3 x4 : Int) (σ : zM) : Option ((Int × Int × zM) ⊕ zO) :=
  if x4 < 0 then
    (f_X9_write_65 x0 x1 x3 σ).map (fun r => (.inr r))
  else
    zlet ((zand (zl2i (jushr x1 x4)) 255)) fun y1 =>
    if y1 = 0 then
      f_X9_write_46 x0 x1 x3 x4 y1 σ
    else
      zci (f_X9_in y1 33 126 σ) fun v2 σ3 =>
      if v2 ≠ 0 then
        f_X9_write_46 x0 x1 x3 x4 y1 σ3
      else
        (f_X9_write_44 σ3).map (fun r => (.inr r))
noncomputable def f_X9_write_11 (x0 x1 x3 x4 : Int) (σ : zM) : Option zO :=
  zloop (fun s : Int × Int × zM => f_X9_write_11_b x0 x1 s.1 s.2.1 s.2.2) (x3, x4, σ)
theorem w_X9_write_11_b {g : zG} {lv : Nat} {out : zO} (x0 x1 x3 x4 : Int) (σ : zM) {r : ((Int × Int × zM) ⊕ zO)} (h : f_X9_write_11_b x0 x1 x3 x4 σ = some r) (hk : (zKL (fun s : Int × Int × zM => Gj g MX9_write (lv + 1) 11 [(0, zr x0), (1, zj x1), (3, zi s.1), (4, zi s.2.1)] [] s.2.2 out) (fun o : zO => o = out)) r) : Gj g MX9_write (lv + 1) 11 [(0, zr x0), (1, zj x1), (3, zi x3), (4, zi x4)] [] σ out := by
  revert h
  unfold f_X9_write_11_b
  refine zst_ (gj_iload 3 (pc := 11) dX9_write_11 rfl) ?_
  refine gb_if (gj_if_lt 65 (pc := 13) dX9_write_13 (by decide)) ?_ ?_
  · refine zst_ (gj_sub [0, 1, 2] rfl) ?_
    intro h
    obtain ⟨r0, h0, rfl⟩ := zmE h
    exact w_X9_write_65 x0 x1 x3 σ h0 hk
  · refine zst_ (gj_lload_n 1 (pc := 16) dX9_write_16 rfl) ?_
    refine zst_ (gj_iload 3 (pc := 17) dX9_write_17 rfl) ?_
    refine zst_ (gj_lushr (pc := 19) dX9_write_19) ?_
    refine zst_ (gj_l2i (pc := 20) dX9_write_20) ?_
    refine zst_ (gj_sipush (pc := 21) dX9_write_21 ⟨rfl, by decide⟩) ?_
    refine zst_ (gj_iand (pc := 24) dX9_write_24) ?_
    refine gb_let (fun y1 => ?_)
    refine zst_ (gj_istore (pc := 25) (ls' := [(5, zi y1), (0, zr x0), (1, zj x1), (3, zi x3), (4, zi x4)]) dX9_write_25 (by decide) rfl) ?_
    refine zst_ (gj_iload 0 (pc := 27) dX9_write_27 rfl) ?_
    refine gb_if (gj_if_eq 46 (pc := 29) dX9_write_29 (by decide)) ?_ ?_
    · refine zst_ (gj_sub [1, 2, 3, 4, 0] rfl) ?_
      exact fun h => w_X9_write_46 x0 x1 x3 x4 y1 σ h hk
    · refine zst_ (gj_iload 0 (pc := 32) dX9_write_32 rfl) ?_
      refine zst_ (gj_bipush (pc := 34) dX9_write_34 ⟨rfl, by decide⟩) ?_
      refine zst_ (gj_bipush (pc := 36) dX9_write_36 ⟨rfl, by decide⟩) ?_
      refine gb_callI (pc := 38) (as := [zi y1, zi 33, zi 126]) (rest := []) (zCl.of (zLk_S (M := MX9_write) plX9_in.1 rfl dX9_write_38 q2143 q2144 q127 q2145) plX9_in (Nat.le_of_ble_eq_true rfl) (fun h => c_X9_in h)) (fun v2 σ3 => ?_)
      refine gb_if (gj_if_ne 46 (pc := 41) dX9_write_41 (by decide)) ?_ ?_
      · refine zst_ (gj_sub [1, 2, 3, 4, 0] rfl) ?_
        exact fun h => w_X9_write_46 x0 x1 x3 x4 y1 σ3 h hk
      · refine zst_ (gj_sub [] rfl) ?_
        intro h
        obtain ⟨r0, h0, rfl⟩ := zmE h
        exact w_X9_write_44 σ3 h0 hk
theorem w_X9_write_11 {g : zG} {lv : Nat} {out : zO} (x0 x1 x3 x4 : Int) (σ : zM) {r : zO} (h : f_X9_write_11 x0 x1 x3 x4 σ = some r) (hk : (fun o : zO => o = out) r) : Gj g MX9_write (lv + 1) 11 [(0, zr x0), (1, zj x1), (3, zi x3), (4, zi x4)] [] σ out :=
  gj_loop (P := (fun s : Int × Int × zM => Gj g MX9_write (lv + 1) 11 [(0, zr x0), (1, zj x1), (3, zi s.1), (4, zi s.2.1)] [] s.2.2 out)) (fun s x hb hx => w_X9_write_11_b x0 x1 s.1 s.2.1 s.2.2 hb hx) h hk
noncomputable def f_X9_write (x0 x1 : Int) (σ : zM) : Option zO :=
  (zpf σ 900 x0 0).bind fun σ1 =>
  f_X9_write_11 x0 x1 0 56 σ1
theorem c_X9_write {g : zG} {lv : Nat} {x0 x1 : Int} {σ : zM} {out : zO} (h : f_X9_write x0 x1 σ = some out) : Cj g (lv + 1) MX9_write [zr x0, zj x1] σ out := by
  refine cj_go (ls := [(0, zr x0), (1, zj x1)]) (by decide) (Nat.le_of_ble_eq_true rfl) rfl (zgen h (fun r hk => ?_))
  unfold f_X9_write
  refine zst_ (gj_aload_n 0 (pc := 0) dX9_write_0 rfl) ?_
  refine zst_ (gj_iconst (pc := 1) dX9_write_1 (by decide)) ?_
  refine gb_put (pc := 2) fl900 fr900 dX9_write_2 q1882 (Or.inl rfl) (fun σ1 => ?_)
  refine zst_ (gj_iconst (pc := 5) dX9_write_5 (by decide)) ?_
  refine zst_ (gj_istore_n (pc := 6) (ls' := [(3, zi 0), (0, zr x0), (1, zj x1)]) dX9_write_6 (by decide) rfl) ?_
  refine zst_ (gj_bipush (pc := 7) dX9_write_7 ⟨rfl, by decide⟩) ?_
  refine zst_ (gj_istore (pc := 9) (ls' := [(4, zi 56), (3, zi 0), (0, zr x0), (1, zj x1)]) dX9_write_9 (by decide) rfl) ?_
  refine zst_ (gj_sub [2, 3, 1, 0] rfl) ?_
  exact fun h => w_X9_write_11 x0 x1 0 56 σ1 h hk
theorem q1885 : (Jvm.Cond.fieldLink "LassoFinderModel" (203 : Nat) "LassoFinderModel" "at" "I") ∈ lw_all := lw_g (lw_at lw_m8 105 rfl) rfl
theorem q2157 : (Jvm.Cond.code ({ cls := "LassoFinderModel", name := "here", desc := "()I" } : Jvm.MethodName) prog_22_method_5_code (1 : Nat) (Option.some Jvm.ClassFile.FieldType.int)) ∈ lw_all := lw_g (lw_at lw_m9 137 rfl) rfl
theorem fl903 : zfl 903 0 "LassoFinderModel" "at" "I" false := ⟨rfl, rfl, rfl⟩
theorem fr903 {g : zG} {v : Int} : zok g (0, v) → zokt g (zft 903) v := fun h => h
abbrev cX9_here : ByteArray := prog_22_method_5_code
def yX9_here : MethodName := ⟨RX9, "here", "()I"⟩
theorem dX9_here_0 : decode cX9_here 0 = .ok (.aload_n 0, 1) := by decide +kernel
theorem dX9_here_1 : decode cX9_here 1 = .ok (.getfield 203, 3) := by decide +kernel
theorem dX9_here_4 : decode cX9_here 4 = .ok (.aload_n 0, 1) := by decide +kernel
theorem dX9_here_5 : decode cX9_here 5 = .ok (.getfield 200, 3) := by decide +kernel
theorem dX9_here_8 : decode cX9_here 8 = .ok (.if_icmp .ge 15, 3) := by decide +kernel
theorem dX9_here_11 : decode cX9_here 11 = .ok (.aload_n 0, 1) := by decide +kernel
theorem dX9_here_12 : decode cX9_here 12 = .ok (.getfield 7, 3) := by decide +kernel
theorem dX9_here_15 : decode cX9_here 15 = .ok (.aload_n 0, 1) := by decide +kernel
theorem dX9_here_16 : decode cX9_here 16 = .ok (.getfield 203, 3) := by decide +kernel
theorem dX9_here_19 : decode cX9_here 19 = .ok (.iaload, 1) := by decide +kernel
theorem dX9_here_20 : decode cX9_here 20 = .ok (.goto 4, 3) := by decide +kernel
theorem dX9_here_23 : decode cX9_here 23 = .ok (.iconst 0, 1) := by decide +kernel
theorem dX9_here_24 : decode cX9_here 24 = .ok (.ireturn, 1) := by decide +kernel
abbrev MX9_here : zT := (yX9_here, cX9_here, 1, (Option.some Jvm.ClassFile.FieldType.int), [])
theorem plX9_here : zplain MX9_here 0 ∧ (zcodeW MX9_here ∈ lw_all ∧ Cond.initialized MX9_here.1.cls ∈ lw_all) := ⟨⟨by decide +kernel, by decide +kernel⟩, q2157, q127⟩
noncomputable def f_X9_here_24 (t0 : Int) (σ : zM) : Option zO :=
  some (0, zi t0, σ)
theorem w_X9_here_24 {g : zG} {lv : Nat} {out : zO} (t0 : Int) (σ : zM) {r : zO} (h : f_X9_here_24 t0 σ = some r) (hk : (fun o : zO => o = out) r) : Gj g MX9_here (lv) 24 [] [zi t0] σ out := by
  revert h
  unfold f_X9_here_24
  intro h
  cases h
  have hk : (0, zi t0, σ) = out := hk
  subst hk
  exact gj_ret (pc := 24) (t := .int) dX9_here_24 rfl ⟨rfl, rfl⟩ (fun h => h)
noncomputable def f_X9_here (x0 : Int) (σ : zM) : Option zO :=
  (zgf σ 903 x0).bind fun v1 =>
  (zgf σ 901 x0).bind fun v2 =>
  if v2 ≤ v1 then
    f_X9_here_24 0 σ
  else
    (zgf σ 902 x0).bind fun v3 =>
    (zgf σ 903 x0).bind fun v4 =>
    (zga σ 101 v3 v4).bind fun v5 =>
    f_X9_here_24 v5 σ
theorem c_X9_here {g : zG} {lv : Nat} {x0 : Int} {σ : zM} {out : zO} (h : f_X9_here x0 σ = some out) : Cj g (lv) MX9_here [zr x0] σ out := by
  refine cj_go (ls := [(0, zr x0)]) (by decide) (Nat.le_of_ble_eq_true rfl) rfl (zgen h (fun r hk => ?_))
  unfold f_X9_here
  refine zst_ (gj_aload_n 0 (pc := 0) dX9_here_0 rfl) ?_
  refine gb_get (pc := 1) fl903 dX9_here_1 q1885 (Or.inl rfl) (fun v1 => ?_)
  refine zst_ (gj_aload_n 0 (pc := 4) dX9_here_4 rfl) ?_
  refine gb_get (pc := 5) fl901 dX9_here_5 q1883 (Or.inl rfl) (fun v2 => ?_)
  refine gb_if (gj_icmp_ge 23 (pc := 8) dX9_here_8 (by decide)) ?_ ?_
  · refine zst_ (gj_iconst (pc := 23) dX9_here_23 (by decide)) ?_
    refine zst_ (gj_sub [] rfl) ?_
    exact fun h => w_X9_here_24 0 σ h hk
  · refine zst_ (gj_aload_n 0 (pc := 11) dX9_here_11 rfl) ?_
    refine gb_get (pc := 12) fl902 dX9_here_12 q1884 (Or.inl rfl) (fun v3 => ?_)
    refine zst_ (gj_aload_n 0 (pc := 15) dX9_here_15 rfl) ?_
    refine gb_get (pc := 16) fl903 dX9_here_16 q1885 (Or.inl rfl) (fun v4 => ?_)
    refine gb_iald (pc := 19) dX9_here_19 (fun v5 => ?_)
    refine zst_ (gj_goto 24 (pc := 20) dX9_here_20 (by decide)) ?_
    refine zst_ (gj_sub [] rfl) ?_
    exact fun h => w_X9_here_24 v5 σ h hk
theorem q2154 : (Jvm.Cond.methodLink "LassoFinderModel" (209 : Nat) ({ cls := "LassoFinderModel", name := "here", desc := "()I" } : Jvm.MethodName)) ∈ lw_all := lw_g (lw_at lw_m9 134 rfl) rfl
theorem q2156 : (Jvm.Cond.instanceMethod ({ cls := "LassoFinderModel", name := "here", desc := "()I" } : Jvm.MethodName)) ∈ lw_all := lw_g (lw_at lw_m9 136 rfl) rfl
theorem q2165 : (Jvm.Cond.code ({ cls := "LassoFinderModel", name := "from", desc := "(II)I" } : Jvm.MethodName) prog_22_method_8_code (3 : Nat) (Option.some Jvm.ClassFile.FieldType.int)) ∈ lw_all := lw_g (lw_at lw_m9 145 rfl) rfl
abbrev cX9_from : ByteArray := prog_22_method_8_code
def yX9_from : MethodName := ⟨RX9, "from", "(II)I"⟩
theorem dX9_from_0 : decode cX9_from 0 = .ok (.aload_n 0, 1) := by decide +kernel
theorem dX9_from_1 : decode cX9_from 1 = .ok (.invokevirtual 209, 3) := by decide +kernel
theorem dX9_from_4 : decode cX9_from 4 = .ok (.iload_n 1, 1) := by decide +kernel
theorem dX9_from_5 : decode cX9_from 5 = .ok (.isub, 1) := by decide +kernel
theorem dX9_from_6 : decode cX9_from 6 = .ok (.iconst 0, 1) := by decide +kernel
theorem dX9_from_7 : decode cX9_from 7 = .ok (.iload_n 2, 1) := by decide +kernel
theorem dX9_from_8 : decode cX9_from 8 = .ok (.iconst 1, 1) := by decide +kernel
theorem dX9_from_9 : decode cX9_from 9 = .ok (.isub, 1) := by decide +kernel
theorem dX9_from_10 : decode cX9_from 10 = .ok (.invokestatic 196, 3) := by decide +kernel
theorem dX9_from_13 : decode cX9_from 13 = .ok (.ifCond .eq 12, 3) := by decide +kernel
theorem dX9_from_16 : decode cX9_from 16 = .ok (.aload_n 0, 1) := by decide +kernel
theorem dX9_from_17 : decode cX9_from 17 = .ok (.invokevirtual 209, 3) := by decide +kernel
theorem dX9_from_20 : decode cX9_from 20 = .ok (.iload_n 1, 1) := by decide +kernel
theorem dX9_from_21 : decode cX9_from 21 = .ok (.isub, 1) := by decide +kernel
theorem dX9_from_22 : decode cX9_from 22 = .ok (.goto 4, 3) := by decide +kernel
theorem dX9_from_25 : decode cX9_from 25 = .ok (.iconst (-1), 1) := by decide +kernel
theorem dX9_from_26 : decode cX9_from 26 = .ok (.ireturn, 1) := by decide +kernel
abbrev MX9_from : zT := (yX9_from, cX9_from, 3, (Option.some Jvm.ClassFile.FieldType.int), [])
theorem plX9_from : zplain MX9_from 2 ∧ (zcodeW MX9_from ∈ lw_all ∧ Cond.initialized MX9_from.1.cls ∈ lw_all) := ⟨⟨by decide +kernel, by decide +kernel⟩, q2165, q127⟩
noncomputable def f_X9_from_26 (t0 : Int) (σ : zM) : Option zO :=
  some (0, zi t0, σ)
theorem w_X9_from_26 {g : zG} {lv : Nat} {out : zO} (t0 : Int) (σ : zM) {r : zO} (h : f_X9_from_26 t0 σ = some r) (hk : (fun o : zO => o = out) r) : Gj g MX9_from (lv + 1) 26 [] [zi t0] σ out := by
  revert h
  unfold f_X9_from_26
  intro h
  cases h
  have hk : (0, zi t0, σ) = out := hk
  subst hk
  exact gj_ret (pc := 26) (t := .int) dX9_from_26 rfl ⟨rfl, rfl⟩ (fun h => h)
noncomputable def f_X9_from (x0 x1 x2 : Int) (σ : zM) : Option zO :=
  zgd (zis σ 10 x0) <|
  zci (f_X9_here x0 σ) fun v1 σ2 =>
  zci (f_X9_in (zsub v1 x1) 0 (zsub x2 1) σ2) fun v3 σ4 =>
  if v3 = 0 then
    f_X9_from_26 (-1) σ4
  else
    zgd (zis σ4 10 x0) <|
    zci (f_X9_here x0 σ4) fun v5 σ6 =>
    f_X9_from_26 (zsub v5 x1) σ6
theorem c_X9_from {g : zG} {lv : Nat} {x0 x1 x2 : Int} {σ : zM} {out : zO} (h : f_X9_from x0 x1 x2 σ = some out) : Cj g (lv + 1) MX9_from [zr x0, zi x1, zi x2] σ out := by
  refine cj_go (ls := [(0, zr x0), (1, zi x1), (2, zi x2)]) (by decide) (Nat.le_of_ble_eq_true rfl) rfl (zgen h (fun r hk => ?_))
  unfold f_X9_from
  refine zst_ (gj_aload_n 0 (pc := 0) dX9_from_0 rfl) ?_
  refine gb_gd (fun hb => ?_)
  refine gb_callI (pc := 1) (as := [zr x0]) (rest := []) (zCl.of (zLk_V (M := MX9_from) (ci := 9) (r := (RX9, TX9, 84)) plX9_here.1 rfl rfl (zisE hb).1 (zisE hb).2 dX9_from_1 q2154 q2156 qs46 q2157) plX9_here (Nat.le_of_ble_eq_true rfl) (fun h => c_X9_here h)) (fun v1 σ2 => ?_)
  refine zst_ (gj_iload_n 1 (pc := 4) dX9_from_4 rfl) ?_
  refine zst_ (gj_isub (pc := 5) dX9_from_5) ?_
  refine zst_ (gj_iconst (pc := 6) dX9_from_6 (by decide)) ?_
  refine zst_ (gj_iload_n 2 (pc := 7) dX9_from_7 rfl) ?_
  refine zst_ (gj_iconst (pc := 8) dX9_from_8 (by decide)) ?_
  refine zst_ (gj_isub (pc := 9) dX9_from_9) ?_
  refine gb_callI (pc := 10) (as := [zi (zsub v1 x1), zi 0, zi (zsub x2 1)]) (rest := []) (zCl.of (zLk_S (M := MX9_from) plX9_in.1 rfl dX9_from_10 q2143 q2144 q127 q2145) plX9_in (Nat.le_of_ble_eq_true rfl) (fun h => c_X9_in h)) (fun v3 σ4 => ?_)
  refine gb_if (gj_if_eq 25 (pc := 13) dX9_from_13 (by decide)) ?_ ?_
  · refine zst_ (gj_iconst (pc := 25) dX9_from_25 (by decide)) ?_
    refine zst_ (gj_sub [] rfl) ?_
    exact fun h => w_X9_from_26 (-1) σ4 h hk
  · refine zst_ (gj_aload_n 0 (pc := 16) dX9_from_16 rfl) ?_
    refine gb_gd (fun hb => ?_)
    refine gb_callI (pc := 17) (as := [zr x0]) (rest := []) (zCl.of (zLk_V (M := MX9_from) (ci := 9) (r := (RX9, TX9, 84)) plX9_here.1 rfl rfl (zisE hb).1 (zisE hb).2 dX9_from_17 q2154 q2156 qs46 q2157) plX9_here (Nat.le_of_ble_eq_true rfl) (fun h => c_X9_here h)) (fun v5 σ6 => ?_)
    refine zst_ (gj_iload_n 1 (pc := 20) dX9_from_20 rfl) ?_
    refine zst_ (gj_isub (pc := 21) dX9_from_21) ?_
    refine zst_ (gj_goto 26 (pc := 22) dX9_from_22 (by decide)) ?_
    refine zst_ (gj_sub [] rfl) ?_
    exact fun h => w_X9_from_26 (zsub v5 x1) σ6 h hk
theorem q1886 : (Jvm.Cond.fieldLink "LassoFinderModel" (206 : Nat) "LassoFinderModel" "bad" "I") ∈ lw_all := lw_g (lw_at lw_m8 106 rfl) rfl
theorem q2169 : (Jvm.Cond.code ({ cls := "LassoFinderModel", name := "fail", desc := "()Z" } : Jvm.MethodName) prog_22_method_6_code (1 : Nat) (Option.some Jvm.ClassFile.FieldType.boolean)) ∈ lw_all := lw_g (lw_at lw_m9 149 rfl) rfl
theorem fl904 : zfl 904 0 "LassoFinderModel" "bad" "I" false := ⟨rfl, rfl, rfl⟩
theorem fr904 {g : zG} {v : Int} : zok g (0, v) → zokt g (zft 904) v := fun h => h
abbrev cX9_fail : ByteArray := prog_22_method_6_code
def yX9_fail : MethodName := ⟨RX9, "fail", "()Z"⟩
theorem dX9_fail_0 : decode cX9_fail 0 = .ok (.aload_n 0, 1) := by decide +kernel
theorem dX9_fail_1 : decode cX9_fail 1 = .ok (.aload_n 0, 1) := by decide +kernel
theorem dX9_fail_2 : decode cX9_fail 2 = .ok (.getfield 203, 3) := by decide +kernel
theorem dX9_fail_5 : decode cX9_fail 5 = .ok (.putfield 206, 3) := by decide +kernel
theorem dX9_fail_8 : decode cX9_fail 8 = .ok (.iconst 0, 1) := by decide +kernel
theorem dX9_fail_9 : decode cX9_fail 9 = .ok (.ireturn, 1) := by decide +kernel
abbrev MX9_fail : zT := (yX9_fail, cX9_fail, 1, (Option.some Jvm.ClassFile.FieldType.boolean), [])
theorem plX9_fail : zplain MX9_fail 0 ∧ (zcodeW MX9_fail ∈ lw_all ∧ Cond.initialized MX9_fail.1.cls ∈ lw_all) := ⟨⟨by decide +kernel, by decide +kernel⟩, q2169, q127⟩
noncomputable def f_X9_fail (x0 : Int) (σ : zM) : Option zO :=
  (zgf σ 903 x0).bind fun v1 =>
  (zpf σ 904 x0 v1).bind fun σ2 =>
  zgd (z01 0) <|
  some (0, zi 0, σ2)
theorem c_X9_fail {g : zG} {lv : Nat} {x0 : Int} {σ : zM} {out : zO} (h : f_X9_fail x0 σ = some out) : Cj g (lv) MX9_fail [zr x0] σ out := by
  refine cj_go (ls := [(0, zr x0)]) (by decide) (Nat.le_of_ble_eq_true rfl) rfl (zgen h (fun r hk => ?_))
  unfold f_X9_fail
  refine zst_ (gj_aload_n 0 (pc := 0) dX9_fail_0 rfl) ?_
  refine zst_ (gj_aload_n 0 (pc := 1) dX9_fail_1 rfl) ?_
  refine gb_get (pc := 2) fl903 dX9_fail_2 q1885 (Or.inl rfl) (fun v1 => ?_)
  refine gb_put (pc := 5) fl904 fr904 dX9_fail_5 q1886 (Or.inl rfl) (fun σ2 => ?_)
  refine zst_ (gj_iconst (pc := 8) dX9_fail_8 (by decide)) ?_
  refine gb_gd (fun hb => ?_)
  intro h
  cases h
  have hk : (0, zi 0, σ2) = out := hk
  subst hk
  exact gj_ret (pc := 9) (t := .boolean) dX9_fail_9 rfl ⟨rfl, rfl⟩ (fun _ => z01E hb)
theorem q2166 : (Jvm.Cond.methodLink "LassoFinderModel" (213 : Nat) ({ cls := "LassoFinderModel", name := "fail", desc := "()Z" } : Jvm.MethodName)) ∈ lw_all := lw_g (lw_at lw_m9 146 rfl) rfl
theorem q2168 : (Jvm.Cond.instanceMethod ({ cls := "LassoFinderModel", name := "fail", desc := "()Z" } : Jvm.MethodName)) ∈ lw_all := lw_g (lw_at lw_m9 148 rfl) rfl
theorem q2173 : (Jvm.Cond.code ({ cls := "LassoFinderModel", name := "takes", desc := "(I)Z" } : Jvm.MethodName) prog_22_method_7_code (2 : Nat) (Option.some Jvm.ClassFile.FieldType.boolean)) ∈ lw_all := lw_g (lw_at lw_m9 153 rfl) rfl
abbrev cX9_takes : ByteArray := prog_22_method_7_code
def yX9_takes : MethodName := ⟨RX9, "takes", "(I)Z"⟩
theorem dX9_takes_0 : decode cX9_takes 0 = .ok (.aload_n 0, 1) := by decide +kernel
theorem dX9_takes_1 : decode cX9_takes 1 = .ok (.invokevirtual 209, 3) := by decide +kernel
theorem dX9_takes_4 : decode cX9_takes 4 = .ok (.iload_n 1, 1) := by decide +kernel
theorem dX9_takes_5 : decode cX9_takes 5 = .ok (.if_icmp .eq 8, 3) := by decide +kernel
theorem dX9_takes_8 : decode cX9_takes 8 = .ok (.aload_n 0, 1) := by decide +kernel
theorem dX9_takes_9 : decode cX9_takes 9 = .ok (.invokevirtual 213, 3) := by decide +kernel
theorem dX9_takes_12 : decode cX9_takes 12 = .ok (.ireturn, 1) := by decide +kernel
theorem dX9_takes_13 : decode cX9_takes 13 = .ok (.aload_n 0, 1) := by decide +kernel
theorem dX9_takes_14 : decode cX9_takes 14 = .ok (.dup, 1) := by decide +kernel
theorem dX9_takes_15 : decode cX9_takes 15 = .ok (.getfield 203, 3) := by decide +kernel
theorem dX9_takes_18 : decode cX9_takes 18 = .ok (.iconst 1, 1) := by decide +kernel
theorem dX9_takes_19 : decode cX9_takes 19 = .ok (.iadd, 1) := by decide +kernel
theorem dX9_takes_20 : decode cX9_takes 20 = .ok (.putfield 203, 3) := by decide +kernel
theorem dX9_takes_23 : decode cX9_takes 23 = .ok (.iconst 1, 1) := by decide +kernel
theorem dX9_takes_24 : decode cX9_takes 24 = .ok (.ireturn, 1) := by decide +kernel
abbrev MX9_takes : zT := (yX9_takes, cX9_takes, 2, (Option.some Jvm.ClassFile.FieldType.boolean), [])
theorem plX9_takes : zplain MX9_takes 1 ∧ (zcodeW MX9_takes ∈ lw_all ∧ Cond.initialized MX9_takes.1.cls ∈ lw_all) := ⟨⟨by decide +kernel, by decide +kernel⟩, q2173, q127⟩
noncomputable def f_X9_takes (x0 x1 : Int) (σ : zM) : Option zO :=
  zgd (zis σ 10 x0) <|
  zci (f_X9_here x0 σ) fun v1 σ2 =>
  if v1 = x1 then
    (zgf σ2 903 x0).bind fun v3 =>
    (zpf σ2 903 x0 (zadd v3 1)).bind fun σ4 =>
    zgd (z01 1) <|
    some (0, zi 1, σ4)
  else
    zgd (zis σ2 10 x0) <|
    zci (f_X9_fail x0 σ2) fun v5 σ6 =>
    zgd (z01 v5) <|
    some (0, zi v5, σ6)
theorem c_X9_takes {g : zG} {lv : Nat} {x0 x1 : Int} {σ : zM} {out : zO} (h : f_X9_takes x0 x1 σ = some out) : Cj g (lv + 1) MX9_takes [zr x0, zi x1] σ out := by
  refine cj_go (ls := [(0, zr x0), (1, zi x1)]) (by decide) (Nat.le_of_ble_eq_true rfl) rfl (zgen h (fun r hk => ?_))
  unfold f_X9_takes
  refine zst_ (gj_aload_n 0 (pc := 0) dX9_takes_0 rfl) ?_
  refine gb_gd (fun hb => ?_)
  refine gb_callI (pc := 1) (as := [zr x0]) (rest := []) (zCl.of (zLk_V (M := MX9_takes) (ci := 9) (r := (RX9, TX9, 84)) plX9_here.1 rfl rfl (zisE hb).1 (zisE hb).2 dX9_takes_1 q2154 q2156 qs46 q2157) plX9_here (Nat.le_of_ble_eq_true rfl) (fun h => c_X9_here h)) (fun v1 σ2 => ?_)
  refine zst_ (gj_iload_n 1 (pc := 4) dX9_takes_4 rfl) ?_
  refine gb_if (gj_icmp_eq 13 (pc := 5) dX9_takes_5 (by decide)) ?_ ?_
  · refine zst_ (gj_aload_n 0 (pc := 13) dX9_takes_13 rfl) ?_
    refine zst_ (gj_dup (pc := 14) dX9_takes_14 rfl) ?_
    refine gb_get (pc := 15) fl903 dX9_takes_15 q1885 (Or.inl rfl) (fun v3 => ?_)
    refine zst_ (gj_iconst (pc := 18) dX9_takes_18 (by decide)) ?_
    refine zst_ (gj_iadd (pc := 19) dX9_takes_19) ?_
    refine gb_put (pc := 20) fl903 fr903 dX9_takes_20 q1885 (Or.inl rfl) (fun σ4 => ?_)
    refine zst_ (gj_iconst (pc := 23) dX9_takes_23 (by decide)) ?_
    refine gb_gd (fun hb => ?_)
    intro h
    cases h
    have hk : (0, zi 1, σ4) = out := hk
    subst hk
    exact gj_ret (pc := 24) (t := .boolean) dX9_takes_24 rfl ⟨rfl, rfl⟩ (fun _ => z01E hb)
  · refine zst_ (gj_aload_n 0 (pc := 8) dX9_takes_8 rfl) ?_
    refine gb_gd (fun hb => ?_)
    refine gb_callI (pc := 9) (as := [zr x0]) (rest := []) (zCl.of (zLk_V (M := MX9_takes) (ci := 9) (r := (RX9, TX9, 84)) plX9_fail.1 rfl rfl (zisE hb).1 (zisE hb).2 dX9_takes_9 q2166 q2168 qs49 q2169) plX9_fail (Nat.le_of_ble_eq_true rfl) (fun h => c_X9_fail h)) (fun v5 σ6 => ?_)
    refine gb_gd (fun hb => ?_)
    intro h
    cases h
    have hk : (0, zi v5, σ6) = out := hk
    subst hk
    exact gj_ret (pc := 12) (t := .boolean) dX9_takes_12 rfl ⟨rfl, rfl⟩ (fun _ => z01E hb)
theorem q1889 : (Jvm.Cond.fieldLink "LassoFinderModel" (241 : Nat) "LassoFinderModel" "vars" "I") ∈ lw_all := lw_g (lw_at lw_m8 109 rfl) rfl
theorem q1890 : (Jvm.Cond.fieldLink "LassoFinderModel" (238 : Nat) "LassoFinderModel" "chans" "I") ∈ lw_all := lw_g (lw_at lw_m8 110 rfl) rfl
theorem q2161 : (Jvm.Cond.code ({ cls := "LassoFinderModel", name := "declaration", desc := "()Z" } : Jvm.MethodName) prog_22_method_14_code (3 : Nat) (Option.some Jvm.ClassFile.FieldType.boolean)) ∈ lw_all := lw_g (lw_at lw_m9 141 rfl) rfl
theorem q2162 : (Jvm.Cond.methodLink "LassoFinderModel" (231 : Nat) ({ cls := "LassoFinderModel", name := "from", desc := "(II)I" } : Jvm.MethodName)) ∈ lw_all := lw_g (lw_at lw_m9 142 rfl) rfl
theorem q2164 : (Jvm.Cond.instanceMethod ({ cls := "LassoFinderModel", name := "from", desc := "(II)I" } : Jvm.MethodName)) ∈ lw_all := lw_g (lw_at lw_m9 144 rfl) rfl
theorem q2170 : (Jvm.Cond.methodLink "LassoFinderModel" (244 : Nat) ({ cls := "LassoFinderModel", name := "takes", desc := "(I)Z" } : Jvm.MethodName)) ∈ lw_all := lw_g (lw_at lw_m9 150 rfl) rfl
theorem q2172 : (Jvm.Cond.instanceMethod ({ cls := "LassoFinderModel", name := "takes", desc := "(I)Z" } : Jvm.MethodName)) ∈ lw_all := lw_g (lw_at lw_m9 152 rfl) rfl
theorem fl907 : zfl 907 0 "LassoFinderModel" "vars" "I" false := ⟨rfl, rfl, rfl⟩
theorem fr907 {g : zG} {v : Int} : zok g (0, v) → zokt g (zft 907) v := fun h => h
theorem fl908 : zfl 908 0 "LassoFinderModel" "chans" "I" false := ⟨rfl, rfl, rfl⟩
theorem fr908 {g : zG} {v : Int} : zok g (0, v) → zokt g (zft 908) v := fun h => h
abbrev cX9_declaration : ByteArray := prog_22_method_14_code
def yX9_declaration : MethodName := ⟨RX9, "declaration", "()Z"⟩
theorem dX9_declaration_0 : decode cX9_declaration 0 = .ok (.aload_n 0, 1) := by decide +kernel
theorem dX9_declaration_1 : decode cX9_declaration 1 = .ok (.invokevirtual 209, 3) := by decide +kernel
theorem dX9_declaration_4 : decode cX9_declaration 4 = .ok (.bipush 35, 2) := by decide +kernel
theorem dX9_declaration_6 : decode cX9_declaration 6 = .ok (.if_icmp .ne 7, 3) := by decide +kernel
theorem dX9_declaration_9 : decode cX9_declaration 9 = .ok (.iconst 1, 1) := by decide +kernel
theorem dX9_declaration_10 : decode cX9_declaration 10 = .ok (.goto 4, 3) := by decide +kernel
theorem dX9_declaration_13 : decode cX9_declaration 13 = .ok (.iconst 0, 1) := by decide +kernel
theorem dX9_declaration_14 : decode cX9_declaration 14 = .ok (.istore_n 1, 1) := by decide +kernel
theorem dX9_declaration_15 : decode cX9_declaration 15 = .ok (.iload_n 1, 1) := by decide +kernel
theorem dX9_declaration_16 : decode cX9_declaration 16 = .ok (.ifCond .eq 13, 3) := by decide +kernel
theorem dX9_declaration_19 : decode cX9_declaration 19 = .ok (.aload_n 0, 1) := by decide +kernel
theorem dX9_declaration_20 : decode cX9_declaration 20 = .ok (.dup, 1) := by decide +kernel
theorem dX9_declaration_21 : decode cX9_declaration 21 = .ok (.getfield 203, 3) := by decide +kernel
theorem dX9_declaration_24 : decode cX9_declaration 24 = .ok (.iconst 1, 1) := by decide +kernel
theorem dX9_declaration_25 : decode cX9_declaration 25 = .ok (.iadd, 1) := by decide +kernel
theorem dX9_declaration_26 : decode cX9_declaration 26 = .ok (.putfield 203, 3) := by decide +kernel
theorem dX9_declaration_29 : decode cX9_declaration 29 = .ok (.aload_n 0, 1) := by decide +kernel
theorem dX9_declaration_30 : decode cX9_declaration 30 = .ok (.bipush 97, 2) := by decide +kernel
theorem dX9_declaration_32 : decode cX9_declaration 32 = .ok (.bipush 8, 2) := by decide +kernel
theorem dX9_declaration_34 : decode cX9_declaration 34 = .ok (.invokevirtual 231, 3) := by decide +kernel
theorem dX9_declaration_37 : decode cX9_declaration 37 = .ok (.istore_n 2, 1) := by decide +kernel
theorem dX9_declaration_38 : decode cX9_declaration 38 = .ok (.iload_n 2, 1) := by decide +kernel
theorem dX9_declaration_39 : decode cX9_declaration 39 = .ok (.ifCond .lt 45, 3) := by decide +kernel
theorem dX9_declaration_42 : decode cX9_declaration 42 = .ok (.aload_n 0, 1) := by decide +kernel
theorem dX9_declaration_43 : decode cX9_declaration 43 = .ok (.getfield 17, 3) := by decide +kernel
theorem dX9_declaration_46 : decode cX9_declaration 46 = .ok (.iload_n 2, 1) := by decide +kernel
theorem dX9_declaration_47 : decode cX9_declaration 47 = .ok (.iaload, 1) := by decide +kernel
theorem dX9_declaration_48 : decode cX9_declaration 48 = .ok (.ifCond .ge 36, 3) := by decide +kernel
theorem dX9_declaration_51 : decode cX9_declaration 51 = .ok (.aload_n 0, 1) := by decide +kernel
theorem dX9_declaration_52 : decode cX9_declaration 52 = .ok (.getfield 20, 3) := by decide +kernel
theorem dX9_declaration_55 : decode cX9_declaration 55 = .ok (.iload_n 2, 1) := by decide +kernel
theorem dX9_declaration_56 : decode cX9_declaration 56 = .ok (.iaload, 1) := by decide +kernel
theorem dX9_declaration_57 : decode cX9_declaration 57 = .ok (.ifCond .ge 27, 3) := by decide +kernel
theorem dX9_declaration_60 : decode cX9_declaration 60 = .ok (.iload_n 1, 1) := by decide +kernel
theorem dX9_declaration_61 : decode cX9_declaration 61 = .ok (.ifCond .eq 14, 3) := by decide +kernel
theorem dX9_declaration_64 : decode cX9_declaration 64 = .ok (.aload_n 0, 1) := by decide +kernel
theorem dX9_declaration_65 : decode cX9_declaration 65 = .ok (.getfield 238, 3) := by decide +kernel
theorem dX9_declaration_68 : decode cX9_declaration 68 = .ok (.iconst 2, 1) := by decide +kernel
theorem dX9_declaration_69 : decode cX9_declaration 69 = .ok (.if_icmp .ne 20, 3) := by decide +kernel
theorem dX9_declaration_72 : decode cX9_declaration 72 = .ok (.goto 12, 3) := by decide +kernel
theorem dX9_declaration_75 : decode cX9_declaration 75 = .ok (.aload_n 0, 1) := by decide +kernel
theorem dX9_declaration_76 : decode cX9_declaration 76 = .ok (.getfield 241, 3) := by decide +kernel
theorem dX9_declaration_79 : decode cX9_declaration 79 = .ok (.bipush 6, 2) := by decide +kernel
theorem dX9_declaration_81 : decode cX9_declaration 81 = .ok (.if_icmp .ne 8, 3) := by decide +kernel
theorem dX9_declaration_84 : decode cX9_declaration 84 = .ok (.aload_n 0, 1) := by decide +kernel
theorem dX9_declaration_85 : decode cX9_declaration 85 = .ok (.invokevirtual 213, 3) := by decide +kernel
theorem dX9_declaration_88 : decode cX9_declaration 88 = .ok (.ireturn, 1) := by decide +kernel
theorem dX9_declaration_89 : decode cX9_declaration 89 = .ok (.aload_n 0, 1) := by decide +kernel
theorem dX9_declaration_90 : decode cX9_declaration 90 = .ok (.dup, 1) := by decide +kernel
theorem dX9_declaration_91 : decode cX9_declaration 91 = .ok (.getfield 203, 3) := by decide +kernel
theorem dX9_declaration_94 : decode cX9_declaration 94 = .ok (.iconst 1, 1) := by decide +kernel
theorem dX9_declaration_95 : decode cX9_declaration 95 = .ok (.iadd, 1) := by decide +kernel
theorem dX9_declaration_96 : decode cX9_declaration 96 = .ok (.putfield 203, 3) := by decide +kernel
theorem dX9_declaration_99 : decode cX9_declaration 99 = .ok (.iload_n 1, 1) := by decide +kernel
theorem dX9_declaration_100 : decode cX9_declaration 100 = .ok (.ifCond .eq 67, 3) := by decide +kernel
theorem dX9_declaration_103 : decode cX9_declaration 103 = .ok (.aload_n 0, 1) := by decide +kernel
theorem dX9_declaration_104 : decode cX9_declaration 104 = .ok (.bipush 48, 2) := by decide +kernel
theorem dX9_declaration_106 : decode cX9_declaration 106 = .ok (.iconst 4, 1) := by decide +kernel
theorem dX9_declaration_107 : decode cX9_declaration 107 = .ok (.invokevirtual 231, 3) := by decide +kernel
theorem dX9_declaration_110 : decode cX9_declaration 110 = .ok (.ifCond .ge 8, 3) := by decide +kernel
theorem dX9_declaration_113 : decode cX9_declaration 113 = .ok (.aload_n 0, 1) := by decide +kernel
theorem dX9_declaration_114 : decode cX9_declaration 114 = .ok (.invokevirtual 213, 3) := by decide +kernel
theorem dX9_declaration_117 : decode cX9_declaration 117 = .ok (.ireturn, 1) := by decide +kernel
theorem dX9_declaration_118 : decode cX9_declaration 118 = .ok (.aload_n 0, 1) := by decide +kernel
theorem dX9_declaration_119 : decode cX9_declaration 119 = .ok (.getfield 20, 3) := by decide +kernel
theorem dX9_declaration_122 : decode cX9_declaration 122 = .ok (.iload_n 2, 1) := by decide +kernel
theorem dX9_declaration_123 : decode cX9_declaration 123 = .ok (.aload_n 0, 1) := by decide +kernel
theorem dX9_declaration_124 : decode cX9_declaration 124 = .ok (.getfield 238, 3) := by decide +kernel
theorem dX9_declaration_127 : decode cX9_declaration 127 = .ok (.iastore, 1) := by decide +kernel
theorem dX9_declaration_128 : decode cX9_declaration 128 = .ok (.aload_n 0, 1) := by decide +kernel
theorem dX9_declaration_129 : decode cX9_declaration 129 = .ok (.getfield 26, 3) := by decide +kernel
theorem dX9_declaration_132 : decode cX9_declaration 132 = .ok (.aload_n 0, 1) := by decide +kernel
theorem dX9_declaration_133 : decode cX9_declaration 133 = .ok (.getfield 238, 3) := by decide +kernel
theorem dX9_declaration_136 : decode cX9_declaration 136 = .ok (.aload_n 0, 1) := by decide +kernel
theorem dX9_declaration_137 : decode cX9_declaration 137 = .ok (.bipush 48, 2) := by decide +kernel
theorem dX9_declaration_139 : decode cX9_declaration 139 = .ok (.iconst 4, 1) := by decide +kernel
theorem dX9_declaration_140 : decode cX9_declaration 140 = .ok (.invokevirtual 231, 3) := by decide +kernel
theorem dX9_declaration_143 : decode cX9_declaration 143 = .ok (.iastore, 1) := by decide +kernel
theorem dX9_declaration_144 : decode cX9_declaration 144 = .ok (.aload_n 0, 1) := by decide +kernel
theorem dX9_declaration_145 : decode cX9_declaration 145 = .ok (.dup, 1) := by decide +kernel
theorem dX9_declaration_146 : decode cX9_declaration 146 = .ok (.getfield 238, 3) := by decide +kernel
theorem dX9_declaration_149 : decode cX9_declaration 149 = .ok (.iconst 1, 1) := by decide +kernel
theorem dX9_declaration_150 : decode cX9_declaration 150 = .ok (.iadd, 1) := by decide +kernel
theorem dX9_declaration_151 : decode cX9_declaration 151 = .ok (.putfield 238, 3) := by decide +kernel
theorem dX9_declaration_154 : decode cX9_declaration 154 = .ok (.aload_n 0, 1) := by decide +kernel
theorem dX9_declaration_155 : decode cX9_declaration 155 = .ok (.dup, 1) := by decide +kernel
theorem dX9_declaration_156 : decode cX9_declaration 156 = .ok (.getfield 203, 3) := by decide +kernel
theorem dX9_declaration_159 : decode cX9_declaration 159 = .ok (.iconst 1, 1) := by decide +kernel
theorem dX9_declaration_160 : decode cX9_declaration 160 = .ok (.iadd, 1) := by decide +kernel
theorem dX9_declaration_161 : decode cX9_declaration 161 = .ok (.putfield 203, 3) := by decide +kernel
theorem dX9_declaration_164 : decode cX9_declaration 164 = .ok (.goto 95, 3) := by decide +kernel
theorem dX9_declaration_167 : decode cX9_declaration 167 = .ok (.aload_n 0, 1) := by decide +kernel
theorem dX9_declaration_168 : decode cX9_declaration 168 = .ok (.getfield 17, 3) := by decide +kernel
theorem dX9_declaration_171 : decode cX9_declaration 171 = .ok (.iload_n 2, 1) := by decide +kernel
theorem dX9_declaration_172 : decode cX9_declaration 172 = .ok (.aload_n 0, 1) := by decide +kernel
theorem dX9_declaration_173 : decode cX9_declaration 173 = .ok (.getfield 241, 3) := by decide +kernel
theorem dX9_declaration_176 : decode cX9_declaration 176 = .ok (.iastore, 1) := by decide +kernel
theorem dX9_declaration_177 : decode cX9_declaration 177 = .ok (.aload_n 0, 1) := by decide +kernel
theorem dX9_declaration_178 : decode cX9_declaration 178 = .ok (.getfield 23, 3) := by decide +kernel
theorem dX9_declaration_181 : decode cX9_declaration 181 = .ok (.aload_n 0, 1) := by decide +kernel
theorem dX9_declaration_182 : decode cX9_declaration 182 = .ok (.getfield 241, 3) := by decide +kernel
theorem dX9_declaration_185 : decode cX9_declaration 185 = .ok (.iconst 0, 1) := by decide +kernel
theorem dX9_declaration_186 : decode cX9_declaration 186 = .ok (.iastore, 1) := by decide +kernel
theorem dX9_declaration_187 : decode cX9_declaration 187 = .ok (.aload_n 0, 1) := by decide +kernel
theorem dX9_declaration_188 : decode cX9_declaration 188 = .ok (.invokevirtual 209, 3) := by decide +kernel
theorem dX9_declaration_191 : decode cX9_declaration 191 = .ok (.bipush 61, 2) := by decide +kernel
theorem dX9_declaration_193 : decode cX9_declaration 193 = .ok (.if_icmp .ne 56, 3) := by decide +kernel
theorem dX9_declaration_196 : decode cX9_declaration 196 = .ok (.aload_n 0, 1) := by decide +kernel
theorem dX9_declaration_197 : decode cX9_declaration 197 = .ok (.dup, 1) := by decide +kernel
theorem dX9_declaration_198 : decode cX9_declaration 198 = .ok (.getfield 203, 3) := by decide +kernel
theorem dX9_declaration_201 : decode cX9_declaration 201 = .ok (.iconst 1, 1) := by decide +kernel
theorem dX9_declaration_202 : decode cX9_declaration 202 = .ok (.iadd, 1) := by decide +kernel
theorem dX9_declaration_203 : decode cX9_declaration 203 = .ok (.putfield 203, 3) := by decide +kernel
theorem dX9_declaration_206 : decode cX9_declaration 206 = .ok (.aload_n 0, 1) := by decide +kernel
theorem dX9_declaration_207 : decode cX9_declaration 207 = .ok (.bipush 48, 2) := by decide +kernel
theorem dX9_declaration_209 : decode cX9_declaration 209 = .ok (.bipush 8, 2) := by decide +kernel
theorem dX9_declaration_211 : decode cX9_declaration 211 = .ok (.invokevirtual 231, 3) := by decide +kernel
theorem dX9_declaration_214 : decode cX9_declaration 214 = .ok (.ifCond .ge 8, 3) := by decide +kernel
theorem dX9_declaration_217 : decode cX9_declaration 217 = .ok (.aload_n 0, 1) := by decide +kernel
theorem dX9_declaration_218 : decode cX9_declaration 218 = .ok (.invokevirtual 213, 3) := by decide +kernel
theorem dX9_declaration_221 : decode cX9_declaration 221 = .ok (.ireturn, 1) := by decide +kernel
theorem dX9_declaration_222 : decode cX9_declaration 222 = .ok (.aload_n 0, 1) := by decide +kernel
theorem dX9_declaration_223 : decode cX9_declaration 223 = .ok (.getfield 23, 3) := by decide +kernel
theorem dX9_declaration_226 : decode cX9_declaration 226 = .ok (.aload_n 0, 1) := by decide +kernel
theorem dX9_declaration_227 : decode cX9_declaration 227 = .ok (.getfield 241, 3) := by decide +kernel
theorem dX9_declaration_230 : decode cX9_declaration 230 = .ok (.aload_n 0, 1) := by decide +kernel
theorem dX9_declaration_231 : decode cX9_declaration 231 = .ok (.bipush 48, 2) := by decide +kernel
theorem dX9_declaration_233 : decode cX9_declaration 233 = .ok (.bipush 8, 2) := by decide +kernel
theorem dX9_declaration_235 : decode cX9_declaration 235 = .ok (.invokevirtual 231, 3) := by decide +kernel
theorem dX9_declaration_238 : decode cX9_declaration 238 = .ok (.iastore, 1) := by decide +kernel
theorem dX9_declaration_239 : decode cX9_declaration 239 = .ok (.aload_n 0, 1) := by decide +kernel
theorem dX9_declaration_240 : decode cX9_declaration 240 = .ok (.dup, 1) := by decide +kernel
theorem dX9_declaration_241 : decode cX9_declaration 241 = .ok (.getfield 203, 3) := by decide +kernel
theorem dX9_declaration_244 : decode cX9_declaration 244 = .ok (.iconst 1, 1) := by decide +kernel
theorem dX9_declaration_245 : decode cX9_declaration 245 = .ok (.iadd, 1) := by decide +kernel
theorem dX9_declaration_246 : decode cX9_declaration 246 = .ok (.putfield 203, 3) := by decide +kernel
theorem dX9_declaration_249 : decode cX9_declaration 249 = .ok (.aload_n 0, 1) := by decide +kernel
theorem dX9_declaration_250 : decode cX9_declaration 250 = .ok (.dup, 1) := by decide +kernel
theorem dX9_declaration_251 : decode cX9_declaration 251 = .ok (.getfield 241, 3) := by decide +kernel
theorem dX9_declaration_254 : decode cX9_declaration 254 = .ok (.iconst 1, 1) := by decide +kernel
theorem dX9_declaration_255 : decode cX9_declaration 255 = .ok (.iadd, 1) := by decide +kernel
theorem dX9_declaration_256 : decode cX9_declaration 256 = .ok (.putfield 241, 3) := by decide +kernel
theorem dX9_declaration_259 : decode cX9_declaration 259 = .ok (.aload_n 0, 1) := by decide +kernel
theorem dX9_declaration_260 : decode cX9_declaration 260 = .ok (.bipush 59, 2) := by decide +kernel
theorem dX9_declaration_262 : decode cX9_declaration 262 = .ok (.invokevirtual 244, 3) := by decide +kernel
theorem dX9_declaration_265 : decode cX9_declaration 265 = .ok (.ireturn, 1) := by decide +kernel
abbrev MX9_declaration : zT := (yX9_declaration, cX9_declaration, 3, (Option.some Jvm.ClassFile.FieldType.boolean), [])
theorem plX9_declaration : zplain MX9_declaration 0 ∧ (zcodeW MX9_declaration ∈ lw_all ∧ Cond.initialized MX9_declaration.1.cls ∈ lw_all) := ⟨⟨by decide +kernel, by decide +kernel⟩, q2161, q127⟩
noncomputable def f_X9_declaration_84 (x0 : Int) (σ : zM) : Option zO :=
  zgd (zis σ 10 x0) <|
  zci (f_X9_fail x0 σ) fun v1 σ2 =>
  zgd (z01 v1) <|
  some (0, zi v1, σ2)
theorem w_X9_declaration_84 {g : zG} {lv : Nat} {out : zO} (x0 : Int) (σ : zM) {r : zO} (h : f_X9_declaration_84 x0 σ = some r) (hk : (fun o : zO => o = out) r) : Gj g MX9_declaration (lv + 2) 84 [(0, zr x0)] [] σ out := by
  revert h
  unfold f_X9_declaration_84
  refine zst_ (gj_aload_n 0 (pc := 84) dX9_declaration_84 rfl) ?_
  refine gb_gd (fun hb => ?_)
  refine gb_callI (pc := 85) (as := [zr x0]) (rest := []) (zCl.of (zLk_V (M := MX9_declaration) (ci := 9) (r := (RX9, TX9, 84)) plX9_fail.1 rfl rfl (zisE hb).1 (zisE hb).2 dX9_declaration_85 q2166 q2168 qs49 q2169) plX9_fail (Nat.le_of_ble_eq_true rfl) (fun h => c_X9_fail h)) (fun v1 σ2 => ?_)
  refine gb_gd (fun hb => ?_)
  intro h
  cases h
  have hk : (0, zi v1, σ2) = out := hk
  subst hk
  exact gj_ret (pc := 88) (t := .boolean) dX9_declaration_88 rfl ⟨rfl, rfl⟩ (fun _ => z01E hb)
noncomputable def f_X9_declaration_259 (x0 : Int) (σ : zM) : Option zO :=
  zgd (zis σ 10 x0) <|
  zci (f_X9_takes x0 59 σ) fun v1 σ2 =>
  zgd (z01 v1) <|
  some (0, zi v1, σ2)
theorem w_X9_declaration_259 {g : zG} {lv : Nat} {out : zO} (x0 : Int) (σ : zM) {r : zO} (h : f_X9_declaration_259 x0 σ = some r) (hk : (fun o : zO => o = out) r) : Gj g MX9_declaration (lv + 2) 259 [(0, zr x0)] [] σ out := by
  revert h
  unfold f_X9_declaration_259
  refine zst_ (gj_aload_n 0 (pc := 259) dX9_declaration_259 rfl) ?_
  refine zst_ (gj_bipush (pc := 260) dX9_declaration_260 ⟨rfl, by decide⟩) ?_
  refine gb_gd (fun hb => ?_)
  refine gb_callI (pc := 262) (as := [zr x0, zi 59]) (rest := []) (zCl.of (zLk_V (M := MX9_declaration) (ci := 9) (r := (RX9, TX9, 84)) plX9_takes.1 rfl rfl (zisE hb).1 (zisE hb).2 dX9_declaration_262 q2170 q2172 qs50 q2173) plX9_takes (Nat.le_of_ble_eq_true rfl) (fun h => c_X9_takes h)) (fun v1 σ2 => ?_)
  refine gb_gd (fun hb => ?_)
  intro h
  cases h
  have hk : (0, zi v1, σ2) = out := hk
  subst hk
  exact gj_ret (pc := 265) (t := .boolean) dX9_declaration_265 rfl ⟨rfl, rfl⟩ (fun _ => z01E hb)
noncomputable def f_X9_declaration_249 (x0 : Int) (σ : zM) : Option zO :=
  (zgf σ 907 x0).bind fun v1 =>
  (zpf σ 907 x0 (zadd v1 1)).bind fun σ2 =>
  f_X9_declaration_259 x0 σ2
theorem w_X9_declaration_249 {g : zG} {lv : Nat} {out : zO} (x0 : Int) (σ : zM) {r : zO} (h : f_X9_declaration_249 x0 σ = some r) (hk : (fun o : zO => o = out) r) : Gj g MX9_declaration (lv + 2) 249 [(0, zr x0)] [] σ out := by
  revert h
  unfold f_X9_declaration_249
  refine zst_ (gj_aload_n 0 (pc := 249) dX9_declaration_249 rfl) ?_
  refine zst_ (gj_dup (pc := 250) dX9_declaration_250 rfl) ?_
  refine gb_get (pc := 251) fl907 dX9_declaration_251 q1889 (Or.inl rfl) (fun v1 => ?_)
  refine zst_ (gj_iconst (pc := 254) dX9_declaration_254 (by decide)) ?_
  refine zst_ (gj_iadd (pc := 255) dX9_declaration_255) ?_
  refine gb_put (pc := 256) fl907 fr907 dX9_declaration_256 q1889 (Or.inl rfl) (fun σ2 => ?_)
  exact fun h => w_X9_declaration_259 x0 σ2 h hk
noncomputable def f_X9_declaration_89 (x0 x1 x2 : Int) (σ : zM) : Option zO :=
  (zgf σ 903 x0).bind fun v1 =>
  (zpf σ 903 x0 (zadd v1 1)).bind fun σ2 =>
  if x1 = 0 then
    (zgf σ2 909 x0).bind fun v3 =>
    (zgf σ2 907 x0).bind fun v4 =>
    (zpa σ2 101 v3 x2 v4).bind fun σ5 =>
    (zgf σ5 911 x0).bind fun v6 =>
    (zgf σ5 907 x0).bind fun v7 =>
    (zpa σ5 101 v6 v7 0).bind fun σ8 =>
    zgd (zis σ8 10 x0) <|
    zci (f_X9_here x0 σ8) fun v9 σ10 =>
    if v9 ≠ 61 then
      f_X9_declaration_249 x0 σ10
    else
      (zgf σ10 903 x0).bind fun v11 =>
      (zpf σ10 903 x0 (zadd v11 1)).bind fun σ12 =>
      zgd (zis σ12 10 x0) <|
      zci (f_X9_from x0 48 8 σ12) fun v13 σ14 =>
      if 0 ≤ v13 then
        (zgf σ14 911 x0).bind fun v15 =>
        (zgf σ14 907 x0).bind fun v16 =>
        zgd (zis σ14 10 x0) <|
        zci (f_X9_from x0 48 8 σ14) fun v17 σ18 =>
        (zpa σ18 101 v15 v16 v17).bind fun σ19 =>
        (zgf σ19 903 x0).bind fun v20 =>
        (zpf σ19 903 x0 (zadd v20 1)).bind fun σ21 =>
        f_X9_declaration_249 x0 σ21
      else
        zgd (zis σ14 10 x0) <|
        zci (f_X9_fail x0 σ14) fun v22 σ23 =>
        zgd (z01 v22) <|
        some (0, zi v22, σ23)
  else
    zgd (zis σ2 10 x0) <|
    zci (f_X9_from x0 48 4 σ2) fun v24 σ25 =>
    if 0 ≤ v24 then
      (zgf σ25 910 x0).bind fun v26 =>
      (zgf σ25 908 x0).bind fun v27 =>
      (zpa σ25 101 v26 x2 v27).bind fun σ28 =>
      (zgf σ28 912 x0).bind fun v29 =>
      (zgf σ28 908 x0).bind fun v30 =>
      zgd (zis σ28 10 x0) <|
      zci (f_X9_from x0 48 4 σ28) fun v31 σ32 =>
      (zpa σ32 101 v29 v30 v31).bind fun σ33 =>
      (zgf σ33 908 x0).bind fun v34 =>
      (zpf σ33 908 x0 (zadd v34 1)).bind fun σ35 =>
      (zgf σ35 903 x0).bind fun v36 =>
      (zpf σ35 903 x0 (zadd v36 1)).bind fun σ37 =>
      f_X9_declaration_259 x0 σ37
    else
      zgd (zis σ25 10 x0) <|
      zci (f_X9_fail x0 σ25) fun v38 σ39 =>
      zgd (z01 v38) <|
      some (0, zi v38, σ39)
theorem w_X9_declaration_89 {g : zG} {lv : Nat} {out : zO} (x0 x1 x2 : Int) (σ : zM) {r : zO} (h : f_X9_declaration_89 x0 x1 x2 σ = some r) (hk : (fun o : zO => o = out) r) : Gj g MX9_declaration (lv + 2) 89 [(0, zr x0), (1, zi x1), (2, zi x2)] [] σ out := by
  revert h
  unfold f_X9_declaration_89
  refine zst_ (gj_aload_n 0 (pc := 89) dX9_declaration_89 rfl) ?_
  refine zst_ (gj_dup (pc := 90) dX9_declaration_90 rfl) ?_
  refine gb_get (pc := 91) fl903 dX9_declaration_91 q1885 (Or.inl rfl) (fun v1 => ?_)
  refine zst_ (gj_iconst (pc := 94) dX9_declaration_94 (by decide)) ?_
  refine zst_ (gj_iadd (pc := 95) dX9_declaration_95) ?_
  refine gb_put (pc := 96) fl903 fr903 dX9_declaration_96 q1885 (Or.inl rfl) (fun σ2 => ?_)
  refine zst_ (gj_iload_n 1 (pc := 99) dX9_declaration_99 rfl) ?_
  refine gb_if (gj_if_eq 167 (pc := 100) dX9_declaration_100 (by decide)) ?_ ?_
  · refine zst_ (gj_aload_n 0 (pc := 167) dX9_declaration_167 rfl) ?_
    refine gb_get (pc := 168) fl909 dX9_declaration_168 q1891 (Or.inl rfl) (fun v3 => ?_)
    refine zst_ (gj_iload_n 2 (pc := 171) dX9_declaration_171 rfl) ?_
    refine zst_ (gj_aload_n 0 (pc := 172) dX9_declaration_172 rfl) ?_
    refine gb_get (pc := 173) fl907 dX9_declaration_173 q1889 (Or.inl rfl) (fun v4 => ?_)
    refine gb_iast (pc := 176) dX9_declaration_176 (fun σ5 => ?_)
    refine zst_ (gj_aload_n 0 (pc := 177) dX9_declaration_177 rfl) ?_
    refine gb_get (pc := 178) fl911 dX9_declaration_178 q1893 (Or.inl rfl) (fun v6 => ?_)
    refine zst_ (gj_aload_n 0 (pc := 181) dX9_declaration_181 rfl) ?_
    refine gb_get (pc := 182) fl907 dX9_declaration_182 q1889 (Or.inl rfl) (fun v7 => ?_)
    refine zst_ (gj_iconst (pc := 185) dX9_declaration_185 (by decide)) ?_
    refine gb_iast (pc := 186) dX9_declaration_186 (fun σ8 => ?_)
    refine zst_ (gj_aload_n 0 (pc := 187) dX9_declaration_187 rfl) ?_
    refine gb_gd (fun hb => ?_)
    refine gb_callI (pc := 188) (as := [zr x0]) (rest := []) (zCl.of (zLk_V (M := MX9_declaration) (ci := 9) (r := (RX9, TX9, 84)) plX9_here.1 rfl rfl (zisE hb).1 (zisE hb).2 dX9_declaration_188 q2154 q2156 qs46 q2157) plX9_here (Nat.le_of_ble_eq_true rfl) (fun h => c_X9_here h)) (fun v9 σ10 => ?_)
    refine zst_ (gj_bipush (pc := 191) dX9_declaration_191 ⟨rfl, by decide⟩) ?_
    refine gb_if (gj_icmp_ne 249 (pc := 193) dX9_declaration_193 (by decide)) ?_ ?_
    · refine zst_ (gj_sub [0] rfl) ?_
      exact fun h => w_X9_declaration_249 x0 σ10 h hk
    · refine zst_ (gj_aload_n 0 (pc := 196) dX9_declaration_196 rfl) ?_
      refine zst_ (gj_dup (pc := 197) dX9_declaration_197 rfl) ?_
      refine gb_get (pc := 198) fl903 dX9_declaration_198 q1885 (Or.inl rfl) (fun v11 => ?_)
      refine zst_ (gj_iconst (pc := 201) dX9_declaration_201 (by decide)) ?_
      refine zst_ (gj_iadd (pc := 202) dX9_declaration_202) ?_
      refine gb_put (pc := 203) fl903 fr903 dX9_declaration_203 q1885 (Or.inl rfl) (fun σ12 => ?_)
      refine zst_ (gj_aload_n 0 (pc := 206) dX9_declaration_206 rfl) ?_
      refine zst_ (gj_bipush (pc := 207) dX9_declaration_207 ⟨rfl, by decide⟩) ?_
      refine zst_ (gj_bipush (pc := 209) dX9_declaration_209 ⟨rfl, by decide⟩) ?_
      refine gb_gd (fun hb => ?_)
      refine gb_callI (pc := 211) (as := [zr x0, zi 48, zi 8]) (rest := []) (zCl.of (zLk_V (M := MX9_declaration) (ci := 9) (r := (RX9, TX9, 84)) plX9_from.1 rfl rfl (zisE hb).1 (zisE hb).2 dX9_declaration_211 q2162 q2164 qs48 q2165) plX9_from (Nat.le_of_ble_eq_true rfl) (fun h => c_X9_from h)) (fun v13 σ14 => ?_)
      refine gb_if (gj_if_ge 222 (pc := 214) dX9_declaration_214 (by decide)) ?_ ?_
      · refine zst_ (gj_aload_n 0 (pc := 222) dX9_declaration_222 rfl) ?_
        refine gb_get (pc := 223) fl911 dX9_declaration_223 q1893 (Or.inl rfl) (fun v15 => ?_)
        refine zst_ (gj_aload_n 0 (pc := 226) dX9_declaration_226 rfl) ?_
        refine gb_get (pc := 227) fl907 dX9_declaration_227 q1889 (Or.inl rfl) (fun v16 => ?_)
        refine zst_ (gj_aload_n 0 (pc := 230) dX9_declaration_230 rfl) ?_
        refine zst_ (gj_bipush (pc := 231) dX9_declaration_231 ⟨rfl, by decide⟩) ?_
        refine zst_ (gj_bipush (pc := 233) dX9_declaration_233 ⟨rfl, by decide⟩) ?_
        refine gb_gd (fun hb => ?_)
        refine gb_callI (pc := 235) (as := [zr x0, zi 48, zi 8]) (rest := [zi v16, zr v15]) (zCl.of (zLk_V (M := MX9_declaration) (ci := 9) (r := (RX9, TX9, 84)) plX9_from.1 rfl rfl (zisE hb).1 (zisE hb).2 dX9_declaration_235 q2162 q2164 qs48 q2165) plX9_from (Nat.le_of_ble_eq_true rfl) (fun h => c_X9_from h)) (fun v17 σ18 => ?_)
        refine gb_iast (pc := 238) dX9_declaration_238 (fun σ19 => ?_)
        refine zst_ (gj_aload_n 0 (pc := 239) dX9_declaration_239 rfl) ?_
        refine zst_ (gj_dup (pc := 240) dX9_declaration_240 rfl) ?_
        refine gb_get (pc := 241) fl903 dX9_declaration_241 q1885 (Or.inl rfl) (fun v20 => ?_)
        refine zst_ (gj_iconst (pc := 244) dX9_declaration_244 (by decide)) ?_
        refine zst_ (gj_iadd (pc := 245) dX9_declaration_245) ?_
        refine gb_put (pc := 246) fl903 fr903 dX9_declaration_246 q1885 (Or.inl rfl) (fun σ21 => ?_)
        refine zst_ (gj_sub [0] rfl) ?_
        exact fun h => w_X9_declaration_249 x0 σ21 h hk
      · refine zst_ (gj_aload_n 0 (pc := 217) dX9_declaration_217 rfl) ?_
        refine gb_gd (fun hb => ?_)
        refine gb_callI (pc := 218) (as := [zr x0]) (rest := []) (zCl.of (zLk_V (M := MX9_declaration) (ci := 9) (r := (RX9, TX9, 84)) plX9_fail.1 rfl rfl (zisE hb).1 (zisE hb).2 dX9_declaration_218 q2166 q2168 qs49 q2169) plX9_fail (Nat.le_of_ble_eq_true rfl) (fun h => c_X9_fail h)) (fun v22 σ23 => ?_)
        refine gb_gd (fun hb => ?_)
        intro h
        cases h
        have hk : (0, zi v22, σ23) = out := hk
        subst hk
        exact gj_ret (pc := 221) (t := .boolean) dX9_declaration_221 rfl ⟨rfl, rfl⟩ (fun _ => z01E hb)
  · refine zst_ (gj_aload_n 0 (pc := 103) dX9_declaration_103 rfl) ?_
    refine zst_ (gj_bipush (pc := 104) dX9_declaration_104 ⟨rfl, by decide⟩) ?_
    refine zst_ (gj_iconst (pc := 106) dX9_declaration_106 (by decide)) ?_
    refine gb_gd (fun hb => ?_)
    refine gb_callI (pc := 107) (as := [zr x0, zi 48, zi 4]) (rest := []) (zCl.of (zLk_V (M := MX9_declaration) (ci := 9) (r := (RX9, TX9, 84)) plX9_from.1 rfl rfl (zisE hb).1 (zisE hb).2 dX9_declaration_107 q2162 q2164 qs48 q2165) plX9_from (Nat.le_of_ble_eq_true rfl) (fun h => c_X9_from h)) (fun v24 σ25 => ?_)
    refine gb_if (gj_if_ge 118 (pc := 110) dX9_declaration_110 (by decide)) ?_ ?_
    · refine zst_ (gj_aload_n 0 (pc := 118) dX9_declaration_118 rfl) ?_
      refine gb_get (pc := 119) fl910 dX9_declaration_119 q1892 (Or.inl rfl) (fun v26 => ?_)
      refine zst_ (gj_iload_n 2 (pc := 122) dX9_declaration_122 rfl) ?_
      refine zst_ (gj_aload_n 0 (pc := 123) dX9_declaration_123 rfl) ?_
      refine gb_get (pc := 124) fl908 dX9_declaration_124 q1890 (Or.inl rfl) (fun v27 => ?_)
      refine gb_iast (pc := 127) dX9_declaration_127 (fun σ28 => ?_)
      refine zst_ (gj_aload_n 0 (pc := 128) dX9_declaration_128 rfl) ?_
      refine gb_get (pc := 129) fl912 dX9_declaration_129 q1894 (Or.inl rfl) (fun v29 => ?_)
      refine zst_ (gj_aload_n 0 (pc := 132) dX9_declaration_132 rfl) ?_
      refine gb_get (pc := 133) fl908 dX9_declaration_133 q1890 (Or.inl rfl) (fun v30 => ?_)
      refine zst_ (gj_aload_n 0 (pc := 136) dX9_declaration_136 rfl) ?_
      refine zst_ (gj_bipush (pc := 137) dX9_declaration_137 ⟨rfl, by decide⟩) ?_
      refine zst_ (gj_iconst (pc := 139) dX9_declaration_139 (by decide)) ?_
      refine gb_gd (fun hb => ?_)
      refine gb_callI (pc := 140) (as := [zr x0, zi 48, zi 4]) (rest := [zi v30, zr v29]) (zCl.of (zLk_V (M := MX9_declaration) (ci := 9) (r := (RX9, TX9, 84)) plX9_from.1 rfl rfl (zisE hb).1 (zisE hb).2 dX9_declaration_140 q2162 q2164 qs48 q2165) plX9_from (Nat.le_of_ble_eq_true rfl) (fun h => c_X9_from h)) (fun v31 σ32 => ?_)
      refine gb_iast (pc := 143) dX9_declaration_143 (fun σ33 => ?_)
      refine zst_ (gj_aload_n 0 (pc := 144) dX9_declaration_144 rfl) ?_
      refine zst_ (gj_dup (pc := 145) dX9_declaration_145 rfl) ?_
      refine gb_get (pc := 146) fl908 dX9_declaration_146 q1890 (Or.inl rfl) (fun v34 => ?_)
      refine zst_ (gj_iconst (pc := 149) dX9_declaration_149 (by decide)) ?_
      refine zst_ (gj_iadd (pc := 150) dX9_declaration_150) ?_
      refine gb_put (pc := 151) fl908 fr908 dX9_declaration_151 q1890 (Or.inl rfl) (fun σ35 => ?_)
      refine zst_ (gj_aload_n 0 (pc := 154) dX9_declaration_154 rfl) ?_
      refine zst_ (gj_dup (pc := 155) dX9_declaration_155 rfl) ?_
      refine gb_get (pc := 156) fl903 dX9_declaration_156 q1885 (Or.inl rfl) (fun v36 => ?_)
      refine zst_ (gj_iconst (pc := 159) dX9_declaration_159 (by decide)) ?_
      refine zst_ (gj_iadd (pc := 160) dX9_declaration_160) ?_
      refine gb_put (pc := 161) fl903 fr903 dX9_declaration_161 q1885 (Or.inl rfl) (fun σ37 => ?_)
      refine zst_ (gj_goto 259 (pc := 164) dX9_declaration_164 (by decide)) ?_
      refine zst_ (gj_sub [0] rfl) ?_
      exact fun h => w_X9_declaration_259 x0 σ37 h hk
    · refine zst_ (gj_aload_n 0 (pc := 113) dX9_declaration_113 rfl) ?_
      refine gb_gd (fun hb => ?_)
      refine gb_callI (pc := 114) (as := [zr x0]) (rest := []) (zCl.of (zLk_V (M := MX9_declaration) (ci := 9) (r := (RX9, TX9, 84)) plX9_fail.1 rfl rfl (zisE hb).1 (zisE hb).2 dX9_declaration_114 q2166 q2168 qs49 q2169) plX9_fail (Nat.le_of_ble_eq_true rfl) (fun h => c_X9_fail h)) (fun v38 σ39 => ?_)
      refine gb_gd (fun hb => ?_)
      intro h
      cases h
      have hk : (0, zi v38, σ39) = out := hk
      subst hk
      exact gj_ret (pc := 117) (t := .boolean) dX9_declaration_117 rfl ⟨rfl, rfl⟩ (fun _ => z01E hb)
noncomputable def f_X9_declaration_29 (x0 x1 : Int) (σ : zM) : Option zO :=
  zgd (zis σ 10 x0) <|
  zci (f_X9_from x0 97 8 σ) fun v1 σ2 =>
  if v1 < 0 then
    f_X9_declaration_84 x0 σ2
  else
    (zgf σ2 909 x0).bind fun v3 =>
    (zga σ2 101 v3 v1).bind fun v4 =>
    if 0 ≤ v4 then
      f_X9_declaration_84 x0 σ2
    else
      (zgf σ2 910 x0).bind fun v5 =>
      (zga σ2 101 v5 v1).bind fun v6 =>
      if 0 ≤ v6 then
        f_X9_declaration_84 x0 σ2
      else
        if x1 = 0 then
          (zgf σ2 907 x0).bind fun v7 =>
          if v7 ≠ 6 then
            f_X9_declaration_89 x0 x1 v1 σ2
          else
            f_X9_declaration_84 x0 σ2
        else
          (zgf σ2 908 x0).bind fun v8 =>
          if v8 ≠ 2 then
            f_X9_declaration_89 x0 x1 v1 σ2
          else
            f_X9_declaration_84 x0 σ2
theorem w_X9_declaration_29 {g : zG} {lv : Nat} {out : zO} (x0 x1 : Int) (σ : zM) {r : zO} (h : f_X9_declaration_29 x0 x1 σ = some r) (hk : (fun o : zO => o = out) r) : Gj g MX9_declaration (lv + 2) 29 [(0, zr x0), (1, zi x1)] [] σ out := by
  revert h
  unfold f_X9_declaration_29
  refine zst_ (gj_aload_n 0 (pc := 29) dX9_declaration_29 rfl) ?_
  refine zst_ (gj_bipush (pc := 30) dX9_declaration_30 ⟨rfl, by decide⟩) ?_
  refine zst_ (gj_bipush (pc := 32) dX9_declaration_32 ⟨rfl, by decide⟩) ?_
  refine gb_gd (fun hb => ?_)
  refine gb_callI (pc := 34) (as := [zr x0, zi 97, zi 8]) (rest := []) (zCl.of (zLk_V (M := MX9_declaration) (ci := 9) (r := (RX9, TX9, 84)) plX9_from.1 rfl rfl (zisE hb).1 (zisE hb).2 dX9_declaration_34 q2162 q2164 qs48 q2165) plX9_from (Nat.le_of_ble_eq_true rfl) (fun h => c_X9_from h)) (fun v1 σ2 => ?_)
  refine zst_ (gj_istore_n (pc := 37) (ls' := [(2, zi v1), (0, zr x0), (1, zi x1)]) dX9_declaration_37 (by decide) rfl) ?_
  refine zst_ (gj_iload_n 0 (pc := 38) dX9_declaration_38 rfl) ?_
  refine gb_if (gj_if_lt 84 (pc := 39) dX9_declaration_39 (by decide)) ?_ ?_
  · refine zst_ (gj_sub [1] rfl) ?_
    exact fun h => w_X9_declaration_84 x0 σ2 h hk
  · refine zst_ (gj_aload_n 1 (pc := 42) dX9_declaration_42 rfl) ?_
    refine gb_get (pc := 43) fl909 dX9_declaration_43 q1891 (Or.inl rfl) (fun v3 => ?_)
    refine zst_ (gj_iload_n 0 (pc := 46) dX9_declaration_46 rfl) ?_
    refine gb_iald (pc := 47) dX9_declaration_47 (fun v4 => ?_)
    refine gb_if (gj_if_ge 84 (pc := 48) dX9_declaration_48 (by decide)) ?_ ?_
    · refine zst_ (gj_sub [1] rfl) ?_
      exact fun h => w_X9_declaration_84 x0 σ2 h hk
    · refine zst_ (gj_aload_n 1 (pc := 51) dX9_declaration_51 rfl) ?_
      refine gb_get (pc := 52) fl910 dX9_declaration_52 q1892 (Or.inl rfl) (fun v5 => ?_)
      refine zst_ (gj_iload_n 0 (pc := 55) dX9_declaration_55 rfl) ?_
      refine gb_iald (pc := 56) dX9_declaration_56 (fun v6 => ?_)
      refine gb_if (gj_if_ge 84 (pc := 57) dX9_declaration_57 (by decide)) ?_ ?_
      · refine zst_ (gj_sub [1] rfl) ?_
        exact fun h => w_X9_declaration_84 x0 σ2 h hk
      · refine zst_ (gj_iload_n 2 (pc := 60) dX9_declaration_60 rfl) ?_
        refine gb_if (gj_if_eq 75 (pc := 61) dX9_declaration_61 (by decide)) ?_ ?_
        · refine zst_ (gj_aload_n 1 (pc := 75) dX9_declaration_75 rfl) ?_
          refine gb_get (pc := 76) fl907 dX9_declaration_76 q1889 (Or.inl rfl) (fun v7 => ?_)
          refine zst_ (gj_bipush (pc := 79) dX9_declaration_79 ⟨rfl, by decide⟩) ?_
          refine gb_if (gj_icmp_ne 89 (pc := 81) dX9_declaration_81 (by decide)) ?_ ?_
          · refine zst_ (gj_sub [1, 2, 0] rfl) ?_
            exact fun h => w_X9_declaration_89 x0 x1 v1 σ2 h hk
          · refine zst_ (gj_sub [1] rfl) ?_
            exact fun h => w_X9_declaration_84 x0 σ2 h hk
        · refine zst_ (gj_aload_n 1 (pc := 64) dX9_declaration_64 rfl) ?_
          refine gb_get (pc := 65) fl908 dX9_declaration_65 q1890 (Or.inl rfl) (fun v8 => ?_)
          refine zst_ (gj_iconst (pc := 68) dX9_declaration_68 (by decide)) ?_
          refine gb_if (gj_icmp_ne 89 (pc := 69) dX9_declaration_69 (by decide)) ?_ ?_
          · refine zst_ (gj_sub [1, 2, 0] rfl) ?_
            exact fun h => w_X9_declaration_89 x0 x1 v1 σ2 h hk
          · refine zst_ (gj_goto 84 (pc := 72) dX9_declaration_72 (by decide)) ?_
            refine zst_ (gj_sub [1] rfl) ?_
            exact fun h => w_X9_declaration_84 x0 σ2 h hk
noncomputable def f_X9_declaration_14 (x0 t0 : Int) (σ : zM) : Option zO :=
  if t0 = 0 then
    f_X9_declaration_29 x0 t0 σ
  else
    (zgf σ 903 x0).bind fun v1 =>
    (zpf σ 903 x0 (zadd v1 1)).bind fun σ2 =>
    f_X9_declaration_29 x0 t0 σ2
theorem w_X9_declaration_14 {g : zG} {lv : Nat} {out : zO} (x0 t0 : Int) (σ : zM) {r : zO} (h : f_X9_declaration_14 x0 t0 σ = some r) (hk : (fun o : zO => o = out) r) : Gj g MX9_declaration (lv + 2) 14 [(0, zr x0)] [zi t0] σ out := by
  revert h
  unfold f_X9_declaration_14
  refine zst_ (gj_istore_n (pc := 14) (ls' := [(1, zi t0), (0, zr x0)]) dX9_declaration_14 (by decide) rfl) ?_
  refine zst_ (gj_iload_n 0 (pc := 15) dX9_declaration_15 rfl) ?_
  refine gb_if (gj_if_eq 29 (pc := 16) dX9_declaration_16 (by decide)) ?_ ?_
  · refine zst_ (gj_sub [1, 0] rfl) ?_
    exact fun h => w_X9_declaration_29 x0 t0 σ h hk
  · refine zst_ (gj_aload_n 1 (pc := 19) dX9_declaration_19 rfl) ?_
    refine zst_ (gj_dup (pc := 20) dX9_declaration_20 rfl) ?_
    refine gb_get (pc := 21) fl903 dX9_declaration_21 q1885 (Or.inl rfl) (fun v1 => ?_)
    refine zst_ (gj_iconst (pc := 24) dX9_declaration_24 (by decide)) ?_
    refine zst_ (gj_iadd (pc := 25) dX9_declaration_25) ?_
    refine gb_put (pc := 26) fl903 fr903 dX9_declaration_26 q1885 (Or.inl rfl) (fun σ2 => ?_)
    refine zst_ (gj_sub [1, 0] rfl) ?_
    exact fun h => w_X9_declaration_29 x0 t0 σ2 h hk
noncomputable def f_X9_declaration (x0 : Int) (σ : zM) : Option zO :=
  zgd (zis σ 10 x0) <|
  zci (f_X9_here x0 σ) fun v1 σ2 =>
  if v1 ≠ 35 then
    f_X9_declaration_14 x0 0 σ2
  else
    f_X9_declaration_14 x0 1 σ2
theorem c_X9_declaration {g : zG} {lv : Nat} {x0 : Int} {σ : zM} {out : zO} (h : f_X9_declaration x0 σ = some out) : Cj g (lv + 2) MX9_declaration [zr x0] σ out := by
  refine cj_go (ls := [(0, zr x0)]) (by decide) (Nat.le_of_ble_eq_true rfl) rfl (zgen h (fun r hk => ?_))
  unfold f_X9_declaration
  refine zst_ (gj_aload_n 0 (pc := 0) dX9_declaration_0 rfl) ?_
  refine gb_gd (fun hb => ?_)
  refine gb_callI (pc := 1) (as := [zr x0]) (rest := []) (zCl.of (zLk_V (M := MX9_declaration) (ci := 9) (r := (RX9, TX9, 84)) plX9_here.1 rfl rfl (zisE hb).1 (zisE hb).2 dX9_declaration_1 q2154 q2156 qs46 q2157) plX9_here (Nat.le_of_ble_eq_true rfl) (fun h => c_X9_here h)) (fun v1 σ2 => ?_)
  refine zst_ (gj_bipush (pc := 4) dX9_declaration_4 ⟨rfl, by decide⟩) ?_
  refine gb_if (gj_icmp_ne 13 (pc := 6) dX9_declaration_6 (by decide)) ?_ ?_
  · refine zst_ (gj_iconst (pc := 13) dX9_declaration_13 (by decide)) ?_
    exact fun h => w_X9_declaration_14 x0 0 σ2 h hk
  · refine zst_ (gj_iconst (pc := 9) dX9_declaration_9 (by decide)) ?_
    refine zst_ (gj_goto 14 (pc := 10) dX9_declaration_10 (by decide)) ?_
    exact fun h => w_X9_declaration_14 x0 1 σ2 h hk
theorem q1895 : (Jvm.Cond.fieldLink "LassoFinderModel" (251 : Nat) "LassoFinderModel" "nodes" "I") ∈ lw_all := lw_g (lw_at lw_m8 115 rfl) rfl
theorem q1912 : (Jvm.Cond.fieldLink "LassoFinderModel" (254 : Nat) "LassoFinderModel" "processes" "I") ∈ lw_all := lw_g (lw_at lw_m8 132 rfl) rfl
theorem q2181 : (Jvm.Cond.code ({ cls := "LassoFinderModel", name := "label", desc := "()Z" } : Jvm.MethodName) prog_22_method_18_code (2 : Nat) (Option.some Jvm.ClassFile.FieldType.boolean)) ∈ lw_all := lw_g (lw_at lw_m9 161 rfl) rfl
theorem fl913 : zfl 913 0 "LassoFinderModel" "nodes" "I" false := ⟨rfl, rfl, rfl⟩
theorem fr913 {g : zG} {v : Int} : zok g (0, v) → zokt g (zft 913) v := fun h => h
theorem fl930 : zfl 930 0 "LassoFinderModel" "processes" "I" false := ⟨rfl, rfl, rfl⟩
theorem fr930 {g : zG} {v : Int} : zok g (0, v) → zokt g (zft 930) v := fun h => h
abbrev cX9_label : ByteArray := prog_22_method_18_code
def yX9_label : MethodName := ⟨RX9, "label", "()Z"⟩
theorem dX9_label_0 : decode cX9_label 0 = .ok (.aload_n 0, 1) := by decide +kernel
theorem dX9_label_1 : decode cX9_label 1 = .ok (.dup, 1) := by decide +kernel
theorem dX9_label_2 : decode cX9_label 2 = .ok (.getfield 203, 3) := by decide +kernel
theorem dX9_label_5 : decode cX9_label 5 = .ok (.iconst 1, 1) := by decide +kernel
theorem dX9_label_6 : decode cX9_label 6 = .ok (.iadd, 1) := by decide +kernel
theorem dX9_label_7 : decode cX9_label 7 = .ok (.putfield 203, 3) := by decide +kernel
theorem dX9_label_10 : decode cX9_label 10 = .ok (.aload_n 0, 1) := by decide +kernel
theorem dX9_label_11 : decode cX9_label 11 = .ok (.bipush 65, 2) := by decide +kernel
theorem dX9_label_13 : decode cX9_label 13 = .ok (.bipush 8, 2) := by decide +kernel
theorem dX9_label_15 : decode cX9_label 15 = .ok (.invokevirtual 231, 3) := by decide +kernel
theorem dX9_label_18 : decode cX9_label 18 = .ok (.istore_n 1, 1) := by decide +kernel
theorem dX9_label_19 : decode cX9_label 19 = .ok (.iload_n 1, 1) := by decide +kernel
theorem dX9_label_20 : decode cX9_label 20 = .ok (.ifCond .lt 20, 3) := by decide +kernel
theorem dX9_label_23 : decode cX9_label 23 = .ok (.aload_n 0, 1) := by decide +kernel
theorem dX9_label_24 : decode cX9_label 24 = .ok (.getfield 81, 3) := by decide +kernel
theorem dX9_label_27 : decode cX9_label 27 = .ok (.bipush 8, 2) := by decide +kernel
theorem dX9_label_29 : decode cX9_label 29 = .ok (.aload_n 0, 1) := by decide +kernel
theorem dX9_label_30 : decode cX9_label 30 = .ok (.getfield 254, 3) := by decide +kernel
theorem dX9_label_33 : decode cX9_label 33 = .ok (.imul, 1) := by decide +kernel
theorem dX9_label_34 : decode cX9_label 34 = .ok (.iload_n 1, 1) := by decide +kernel
theorem dX9_label_35 : decode cX9_label 35 = .ok (.iadd, 1) := by decide +kernel
theorem dX9_label_36 : decode cX9_label 36 = .ok (.iaload, 1) := by decide +kernel
theorem dX9_label_37 : decode cX9_label 37 = .ok (.ifCond .lt 8, 3) := by decide +kernel
theorem dX9_label_40 : decode cX9_label 40 = .ok (.aload_n 0, 1) := by decide +kernel
theorem dX9_label_41 : decode cX9_label 41 = .ok (.invokevirtual 213, 3) := by decide +kernel
theorem dX9_label_44 : decode cX9_label 44 = .ok (.ireturn, 1) := by decide +kernel
theorem dX9_label_45 : decode cX9_label 45 = .ok (.aload_n 0, 1) := by decide +kernel
theorem dX9_label_46 : decode cX9_label 46 = .ok (.getfield 81, 3) := by decide +kernel
theorem dX9_label_49 : decode cX9_label 49 = .ok (.bipush 8, 2) := by decide +kernel
theorem dX9_label_51 : decode cX9_label 51 = .ok (.aload_n 0, 1) := by decide +kernel
theorem dX9_label_52 : decode cX9_label 52 = .ok (.getfield 254, 3) := by decide +kernel
theorem dX9_label_55 : decode cX9_label 55 = .ok (.imul, 1) := by decide +kernel
theorem dX9_label_56 : decode cX9_label 56 = .ok (.iload_n 1, 1) := by decide +kernel
theorem dX9_label_57 : decode cX9_label 57 = .ok (.iadd, 1) := by decide +kernel
theorem dX9_label_58 : decode cX9_label 58 = .ok (.aload_n 0, 1) := by decide +kernel
theorem dX9_label_59 : decode cX9_label 59 = .ok (.getfield 251, 3) := by decide +kernel
theorem dX9_label_62 : decode cX9_label 62 = .ok (.iastore, 1) := by decide +kernel
theorem dX9_label_63 : decode cX9_label 63 = .ok (.aload_n 0, 1) := by decide +kernel
theorem dX9_label_64 : decode cX9_label 64 = .ok (.dup, 1) := by decide +kernel
theorem dX9_label_65 : decode cX9_label 65 = .ok (.getfield 203, 3) := by decide +kernel
theorem dX9_label_68 : decode cX9_label 68 = .ok (.iconst 1, 1) := by decide +kernel
theorem dX9_label_69 : decode cX9_label 69 = .ok (.iadd, 1) := by decide +kernel
theorem dX9_label_70 : decode cX9_label 70 = .ok (.putfield 203, 3) := by decide +kernel
theorem dX9_label_73 : decode cX9_label 73 = .ok (.iconst 1, 1) := by decide +kernel
theorem dX9_label_74 : decode cX9_label 74 = .ok (.ireturn, 1) := by decide +kernel
abbrev MX9_label : zT := (yX9_label, cX9_label, 2, (Option.some Jvm.ClassFile.FieldType.boolean), [])
theorem plX9_label : zplain MX9_label 0 ∧ (zcodeW MX9_label ∈ lw_all ∧ Cond.initialized MX9_label.1.cls ∈ lw_all) := ⟨⟨by decide +kernel, by decide +kernel⟩, q2181, q127⟩
noncomputable def f_X9_label_40 (x0 : Int) (σ : zM) : Option zO :=
  zgd (zis σ 10 x0) <|
  zci (f_X9_fail x0 σ) fun v1 σ2 =>
  zgd (z01 v1) <|
  some (0, zi v1, σ2)
theorem w_X9_label_40 {g : zG} {lv : Nat} {out : zO} (x0 : Int) (σ : zM) {r : zO} (h : f_X9_label_40 x0 σ = some r) (hk : (fun o : zO => o = out) r) : Gj g MX9_label (lv + 2) 40 [(0, zr x0)] [] σ out := by
  revert h
  unfold f_X9_label_40
  refine zst_ (gj_aload_n 0 (pc := 40) dX9_label_40 rfl) ?_
  refine gb_gd (fun hb => ?_)
  refine gb_callI (pc := 41) (as := [zr x0]) (rest := []) (zCl.of (zLk_V (M := MX9_label) (ci := 9) (r := (RX9, TX9, 84)) plX9_fail.1 rfl rfl (zisE hb).1 (zisE hb).2 dX9_label_41 q2166 q2168 qs49 q2169) plX9_fail (Nat.le_of_ble_eq_true rfl) (fun h => c_X9_fail h)) (fun v1 σ2 => ?_)
  refine gb_gd (fun hb => ?_)
  intro h
  cases h
  have hk : (0, zi v1, σ2) = out := hk
  subst hk
  exact gj_ret (pc := 44) (t := .boolean) dX9_label_44 rfl ⟨rfl, rfl⟩ (fun _ => z01E hb)
noncomputable def f_X9_label (x0 : Int) (σ : zM) : Option zO :=
  (zgf σ 903 x0).bind fun v1 =>
  (zpf σ 903 x0 (zadd v1 1)).bind fun σ2 =>
  zgd (zis σ2 10 x0) <|
  zci (f_X9_from x0 65 8 σ2) fun v3 σ4 =>
  if v3 < 0 then
    f_X9_label_40 x0 σ4
  else
    (zgf σ4 933 x0).bind fun v5 =>
    (zgf σ4 930 x0).bind fun v6 =>
    (zga σ4 101 v5 (zadd (zmul 8 v6) v3)).bind fun v7 =>
    if v7 < 0 then
      (zgf σ4 933 x0).bind fun v8 =>
      (zgf σ4 930 x0).bind fun v9 =>
      (zgf σ4 913 x0).bind fun v10 =>
      (zpa σ4 101 v8 (zadd (zmul 8 v9) v3) v10).bind fun σ11 =>
      (zgf σ11 903 x0).bind fun v12 =>
      (zpf σ11 903 x0 (zadd v12 1)).bind fun σ13 =>
      zgd (z01 1) <|
      some (0, zi 1, σ13)
    else
      f_X9_label_40 x0 σ4
theorem c_X9_label {g : zG} {lv : Nat} {x0 : Int} {σ : zM} {out : zO} (h : f_X9_label x0 σ = some out) : Cj g (lv + 2) MX9_label [zr x0] σ out := by
  refine cj_go (ls := [(0, zr x0)]) (by decide) (Nat.le_of_ble_eq_true rfl) rfl (zgen h (fun r hk => ?_))
  unfold f_X9_label
  refine zst_ (gj_aload_n 0 (pc := 0) dX9_label_0 rfl) ?_
  refine zst_ (gj_dup (pc := 1) dX9_label_1 rfl) ?_
  refine gb_get (pc := 2) fl903 dX9_label_2 q1885 (Or.inl rfl) (fun v1 => ?_)
  refine zst_ (gj_iconst (pc := 5) dX9_label_5 (by decide)) ?_
  refine zst_ (gj_iadd (pc := 6) dX9_label_6) ?_
  refine gb_put (pc := 7) fl903 fr903 dX9_label_7 q1885 (Or.inl rfl) (fun σ2 => ?_)
  refine zst_ (gj_aload_n 0 (pc := 10) dX9_label_10 rfl) ?_
  refine zst_ (gj_bipush (pc := 11) dX9_label_11 ⟨rfl, by decide⟩) ?_
  refine zst_ (gj_bipush (pc := 13) dX9_label_13 ⟨rfl, by decide⟩) ?_
  refine gb_gd (fun hb => ?_)
  refine gb_callI (pc := 15) (as := [zr x0, zi 65, zi 8]) (rest := []) (zCl.of (zLk_V (M := MX9_label) (ci := 9) (r := (RX9, TX9, 84)) plX9_from.1 rfl rfl (zisE hb).1 (zisE hb).2 dX9_label_15 q2162 q2164 qs48 q2165) plX9_from (Nat.le_of_ble_eq_true rfl) (fun h => c_X9_from h)) (fun v3 σ4 => ?_)
  refine zst_ (gj_istore_n (pc := 18) (ls' := [(1, zi v3), (0, zr x0)]) dX9_label_18 (by decide) rfl) ?_
  refine zst_ (gj_iload_n 0 (pc := 19) dX9_label_19 rfl) ?_
  refine gb_if (gj_if_lt 40 (pc := 20) dX9_label_20 (by decide)) ?_ ?_
  · refine zst_ (gj_sub [1] rfl) ?_
    exact fun h => w_X9_label_40 x0 σ4 h hk
  · refine zst_ (gj_aload_n 1 (pc := 23) dX9_label_23 rfl) ?_
    refine gb_get (pc := 24) fl933 dX9_label_24 q1915 (Or.inl rfl) (fun v5 => ?_)
    refine zst_ (gj_bipush (pc := 27) dX9_label_27 ⟨rfl, by decide⟩) ?_
    refine zst_ (gj_aload_n 1 (pc := 29) dX9_label_29 rfl) ?_
    refine gb_get (pc := 30) fl930 dX9_label_30 q1912 (Or.inl rfl) (fun v6 => ?_)
    refine zst_ (gj_imul (pc := 33) dX9_label_33) ?_
    refine zst_ (gj_iload_n 0 (pc := 34) dX9_label_34 rfl) ?_
    refine zst_ (gj_iadd (pc := 35) dX9_label_35) ?_
    refine gb_iald (pc := 36) dX9_label_36 (fun v7 => ?_)
    refine gb_if (gj_if_lt 45 (pc := 37) dX9_label_37 (by decide)) ?_ ?_
    · refine zst_ (gj_aload_n 1 (pc := 45) dX9_label_45 rfl) ?_
      refine gb_get (pc := 46) fl933 dX9_label_46 q1915 (Or.inl rfl) (fun v8 => ?_)
      refine zst_ (gj_bipush (pc := 49) dX9_label_49 ⟨rfl, by decide⟩) ?_
      refine zst_ (gj_aload_n 1 (pc := 51) dX9_label_51 rfl) ?_
      refine gb_get (pc := 52) fl930 dX9_label_52 q1912 (Or.inl rfl) (fun v9 => ?_)
      refine zst_ (gj_imul (pc := 55) dX9_label_55) ?_
      refine zst_ (gj_iload_n 0 (pc := 56) dX9_label_56 rfl) ?_
      refine zst_ (gj_iadd (pc := 57) dX9_label_57) ?_
      refine zst_ (gj_aload_n 1 (pc := 58) dX9_label_58 rfl) ?_
      refine gb_get (pc := 59) fl913 dX9_label_59 q1895 (Or.inl rfl) (fun v10 => ?_)
      refine gb_iast (pc := 62) dX9_label_62 (fun σ11 => ?_)
      refine zst_ (gj_aload_n 1 (pc := 63) dX9_label_63 rfl) ?_
      refine zst_ (gj_dup (pc := 64) dX9_label_64 rfl) ?_
      refine gb_get (pc := 65) fl903 dX9_label_65 q1885 (Or.inl rfl) (fun v12 => ?_)
      refine zst_ (gj_iconst (pc := 68) dX9_label_68 (by decide)) ?_
      refine zst_ (gj_iadd (pc := 69) dX9_label_69) ?_
      refine gb_put (pc := 70) fl903 fr903 dX9_label_70 q1885 (Or.inl rfl) (fun σ13 => ?_)
      refine zst_ (gj_iconst (pc := 73) dX9_label_73 (by decide)) ?_
      refine gb_gd (fun hb => ?_)
      intro h
      cases h
      have hk : (0, zi 1, σ13) = out := hk
      subst hk
      exact gj_ret (pc := 74) (t := .boolean) dX9_label_74 rfl ⟨rfl, rfl⟩ (fun _ => z01E hb)
    · refine zst_ (gj_sub [1] rfl) ?_
      exact fun h => w_X9_label_40 x0 σ4 h hk
theorem q1909 : (Jvm.Cond.fieldLink "LassoFinderModel" (257 : Nat) "LassoFinderModel" "basics" "I") ∈ lw_all := lw_g (lw_at lw_m8 129 rfl) rfl
theorem q1920 : (Jvm.Cond.fieldLink "LassoFinderModel" (248 : Nat) "LassoFinderModel" "open" "I") ∈ lw_all := lw_g (lw_at lw_m8 140 rfl) rfl
theorem q2189 : (Jvm.Cond.code ({ cls := "LassoFinderModel", name := "node", desc := "(I)I" } : Jvm.MethodName) prog_22_method_16_code (4 : Nat) (Option.some Jvm.ClassFile.FieldType.int)) ∈ lw_all := lw_g (lw_at lw_m9 169 rfl) rfl
theorem fl927 : zfl 927 0 "LassoFinderModel" "basics" "I" false := ⟨rfl, rfl, rfl⟩
theorem fr927 {g : zG} {v : Int} : zok g (0, v) → zokt g (zft 927) v := fun h => h
theorem fl938 : zfl 938 0 "LassoFinderModel" "open" "I" false := ⟨rfl, rfl, rfl⟩
theorem fr938 {g : zG} {v : Int} : zok g (0, v) → zokt g (zft 938) v := fun h => h
abbrev cX9_node : ByteArray := prog_22_method_16_code
def yX9_node : MethodName := ⟨RX9, "node", "(I)I"⟩
theorem dX9_node_0 : decode cX9_node 0 = .ok (.aload_n 0, 1) := by decide +kernel
theorem dX9_node_1 : decode cX9_node 1 = .ok (.getfield 251, 3) := by decide +kernel
theorem dX9_node_4 : decode cX9_node 4 = .ok (.istore_n 2, 1) := by decide +kernel
theorem dX9_node_5 : decode cX9_node 5 = .ok (.aload_n 0, 1) := by decide +kernel
theorem dX9_node_6 : decode cX9_node 6 = .ok (.dup, 1) := by decide +kernel
theorem dX9_node_7 : decode cX9_node 7 = .ok (.getfield 251, 3) := by decide +kernel
theorem dX9_node_10 : decode cX9_node 10 = .ok (.iconst 1, 1) := by decide +kernel
theorem dX9_node_11 : decode cX9_node 11 = .ok (.iadd, 1) := by decide +kernel
theorem dX9_node_12 : decode cX9_node 12 = .ok (.putfield 251, 3) := by decide +kernel
theorem dX9_node_15 : decode cX9_node 15 = .ok (.aload_n 0, 1) := by decide +kernel
theorem dX9_node_16 : decode cX9_node 16 = .ok (.getfield 29, 3) := by decide +kernel
theorem dX9_node_19 : decode cX9_node 19 = .ok (.iload_n 2, 1) := by decide +kernel
theorem dX9_node_20 : decode cX9_node 20 = .ok (.iload_n 1, 1) := by decide +kernel
theorem dX9_node_21 : decode cX9_node 21 = .ok (.iastore, 1) := by decide +kernel
theorem dX9_node_22 : decode cX9_node 22 = .ok (.aload_n 0, 1) := by decide +kernel
theorem dX9_node_23 : decode cX9_node 23 = .ok (.getfield 32, 3) := by decide +kernel
theorem dX9_node_26 : decode cX9_node 26 = .ok (.iload_n 2, 1) := by decide +kernel
theorem dX9_node_27 : decode cX9_node 27 = .ok (.aload_n 0, 1) := by decide +kernel
theorem dX9_node_28 : decode cX9_node 28 = .ok (.getfield 254, 3) := by decide +kernel
theorem dX9_node_31 : decode cX9_node 31 = .ok (.iastore, 1) := by decide +kernel
theorem dX9_node_32 : decode cX9_node 32 = .ok (.aload_n 0, 1) := by decide +kernel
theorem dX9_node_33 : decode cX9_node 33 = .ok (.getfield 35, 3) := by decide +kernel
theorem dX9_node_36 : decode cX9_node 36 = .ok (.iload_n 2, 1) := by decide +kernel
theorem dX9_node_37 : decode cX9_node 37 = .ok (.aload_n 0, 1) := by decide +kernel
theorem dX9_node_38 : decode cX9_node 38 = .ok (.getfield 97, 3) := by decide +kernel
theorem dX9_node_41 : decode cX9_node 41 = .ok (.aload_n 0, 1) := by decide +kernel
theorem dX9_node_42 : decode cX9_node 42 = .ok (.getfield 248, 3) := by decide +kernel
theorem dX9_node_45 : decode cX9_node 45 = .ok (.iaload, 1) := by decide +kernel
theorem dX9_node_46 : decode cX9_node 46 = .ok (.iastore, 1) := by decide +kernel
theorem dX9_node_47 : decode cX9_node 47 = .ok (.aload_n 0, 1) := by decide +kernel
theorem dX9_node_48 : decode cX9_node 48 = .ok (.getfield 38, 3) := by decide +kernel
theorem dX9_node_51 : decode cX9_node 51 = .ok (.iload_n 2, 1) := by decide +kernel
theorem dX9_node_52 : decode cX9_node 52 = .ok (.iconst (-1), 1) := by decide +kernel
theorem dX9_node_53 : decode cX9_node 53 = .ok (.iastore, 1) := by decide +kernel
theorem dX9_node_54 : decode cX9_node 54 = .ok (.aload_n 0, 1) := by decide +kernel
theorem dX9_node_55 : decode cX9_node 55 = .ok (.getfield 41, 3) := by decide +kernel
theorem dX9_node_58 : decode cX9_node 58 = .ok (.iload_n 2, 1) := by decide +kernel
theorem dX9_node_59 : decode cX9_node 59 = .ok (.aload_n 0, 1) := by decide +kernel
theorem dX9_node_60 : decode cX9_node 60 = .ok (.getfield 100, 3) := by decide +kernel
theorem dX9_node_63 : decode cX9_node 63 = .ok (.aload_n 0, 1) := by decide +kernel
theorem dX9_node_64 : decode cX9_node 64 = .ok (.getfield 248, 3) := by decide +kernel
theorem dX9_node_67 : decode cX9_node 67 = .ok (.iaload, 1) := by decide +kernel
theorem dX9_node_68 : decode cX9_node 68 = .ok (.ifCond .ge 7, 3) := by decide +kernel
theorem dX9_node_71 : decode cX9_node 71 = .ok (.iconst 1, 1) := by decide +kernel
theorem dX9_node_72 : decode cX9_node 72 = .ok (.goto 4, 3) := by decide +kernel
theorem dX9_node_75 : decode cX9_node 75 = .ok (.iconst 0, 1) := by decide +kernel
theorem dX9_node_76 : decode cX9_node 76 = .ok (.bastore, 1) := by decide +kernel
theorem dX9_node_77 : decode cX9_node 77 = .ok (.aload_n 0, 1) := by decide +kernel
theorem dX9_node_78 : decode cX9_node 78 = .ok (.getfield 100, 3) := by decide +kernel
theorem dX9_node_81 : decode cX9_node 81 = .ok (.aload_n 0, 1) := by decide +kernel
theorem dX9_node_82 : decode cX9_node 82 = .ok (.getfield 248, 3) := by decide +kernel
theorem dX9_node_85 : decode cX9_node 85 = .ok (.iaload, 1) := by decide +kernel
theorem dX9_node_86 : decode cX9_node 86 = .ok (.ifCond .lt 18, 3) := by decide +kernel
theorem dX9_node_89 : decode cX9_node 89 = .ok (.aload_n 0, 1) := by decide +kernel
theorem dX9_node_90 : decode cX9_node 90 = .ok (.getfield 38, 3) := by decide +kernel
theorem dX9_node_93 : decode cX9_node 93 = .ok (.aload_n 0, 1) := by decide +kernel
theorem dX9_node_94 : decode cX9_node 94 = .ok (.getfield 100, 3) := by decide +kernel
theorem dX9_node_97 : decode cX9_node 97 = .ok (.aload_n 0, 1) := by decide +kernel
theorem dX9_node_98 : decode cX9_node 98 = .ok (.getfield 248, 3) := by decide +kernel
theorem dX9_node_101 : decode cX9_node 101 = .ok (.iaload, 1) := by decide +kernel
theorem dX9_node_102 : decode cX9_node 102 = .ok (.iload_n 2, 1) := by decide +kernel
theorem dX9_node_103 : decode cX9_node 103 = .ok (.iastore, 1) := by decide +kernel
theorem dX9_node_104 : decode cX9_node 104 = .ok (.aload_n 0, 1) := by decide +kernel
theorem dX9_node_105 : decode cX9_node 105 = .ok (.getfield 100, 3) := by decide +kernel
theorem dX9_node_108 : decode cX9_node 108 = .ok (.aload_n 0, 1) := by decide +kernel
theorem dX9_node_109 : decode cX9_node 109 = .ok (.getfield 248, 3) := by decide +kernel
theorem dX9_node_112 : decode cX9_node 112 = .ok (.iload_n 2, 1) := by decide +kernel
theorem dX9_node_113 : decode cX9_node 113 = .ok (.iastore, 1) := by decide +kernel
theorem dX9_node_114 : decode cX9_node 114 = .ok (.aload_n 0, 1) := by decide +kernel
theorem dX9_node_115 : decode cX9_node 115 = .ok (.getfield 45, 3) := by decide +kernel
theorem dX9_node_118 : decode cX9_node 118 = .ok (.iload_n 2, 1) := by decide +kernel
theorem dX9_node_119 : decode cX9_node 119 = .ok (.iconst (-1), 1) := by decide +kernel
theorem dX9_node_120 : decode cX9_node 120 = .ok (.iastore, 1) := by decide +kernel
theorem dX9_node_121 : decode cX9_node 121 = .ok (.iconst 1, 1) := by decide +kernel
theorem dX9_node_122 : decode cX9_node 122 = .ok (.istore_n 3, 1) := by decide +kernel
theorem dX9_node_123 : decode cX9_node 123 = .ok (.iload_n 3, 1) := by decide +kernel
theorem dX9_node_124 : decode cX9_node 124 = .ok (.aload_n 0, 1) := by decide +kernel
theorem dX9_node_125 : decode cX9_node 125 = .ok (.getfield 248, 3) := by decide +kernel
theorem dX9_node_128 : decode cX9_node 128 = .ok (.if_icmp .gt 31, 3) := by decide +kernel
theorem dX9_node_131 : decode cX9_node 131 = .ok (.aload_n 0, 1) := by decide +kernel
theorem dX9_node_132 : decode cX9_node 132 = .ok (.getfield 94, 3) := by decide +kernel
theorem dX9_node_135 : decode cX9_node 135 = .ok (.iload_n 3, 1) := by decide +kernel
theorem dX9_node_136 : decode cX9_node 136 = .ok (.iaload, 1) := by decide +kernel
theorem dX9_node_137 : decode cX9_node 137 = .ok (.iconst 3, 1) := by decide +kernel
theorem dX9_node_138 : decode cX9_node 138 = .ok (.if_icmp .ne 15, 3) := by decide +kernel
theorem dX9_node_141 : decode cX9_node 141 = .ok (.aload_n 0, 1) := by decide +kernel
theorem dX9_node_142 : decode cX9_node 142 = .ok (.getfield 45, 3) := by decide +kernel
theorem dX9_node_145 : decode cX9_node 145 = .ok (.iload_n 2, 1) := by decide +kernel
theorem dX9_node_146 : decode cX9_node 146 = .ok (.aload_n 0, 1) := by decide +kernel
theorem dX9_node_147 : decode cX9_node 147 = .ok (.getfield 97, 3) := by decide +kernel
theorem dX9_node_150 : decode cX9_node 150 = .ok (.iload_n 3, 1) := by decide +kernel
theorem dX9_node_151 : decode cX9_node 151 = .ok (.iaload, 1) := by decide +kernel
theorem dX9_node_152 : decode cX9_node 152 = .ok (.iastore, 1) := by decide +kernel
theorem dX9_node_153 : decode cX9_node 153 = .ok (.iinc 3 1, 3) := by decide +kernel
theorem dX9_node_156 : decode cX9_node 156 = .ok (.goto (-33), 3) := by decide +kernel
theorem dX9_node_159 : decode cX9_node 159 = .ok (.aload_n 0, 1) := by decide +kernel
theorem dX9_node_160 : decode cX9_node 160 = .ok (.getfield 48, 3) := by decide +kernel
theorem dX9_node_163 : decode cX9_node 163 = .ok (.iload_n 2, 1) := by decide +kernel
theorem dX9_node_164 : decode cX9_node 164 = .ok (.iconst (-1), 1) := by decide +kernel
theorem dX9_node_165 : decode cX9_node 165 = .ok (.iastore, 1) := by decide +kernel
theorem dX9_node_166 : decode cX9_node 166 = .ok (.iload_n 1, 1) := by decide +kernel
theorem dX9_node_167 : decode cX9_node 167 = .ok (.bipush 7, 2) := by decide +kernel
theorem dX9_node_169 : decode cX9_node 169 = .ok (.if_icmp .gt 54, 3) := by decide +kernel
theorem dX9_node_172 : decode cX9_node 172 = .ok (.aload_n 0, 1) := by decide +kernel
theorem dX9_node_173 : decode cX9_node 173 = .ok (.getfield 48, 3) := by decide +kernel
theorem dX9_node_176 : decode cX9_node 176 = .ok (.iload_n 2, 1) := by decide +kernel
theorem dX9_node_177 : decode cX9_node 177 = .ok (.aload_n 0, 1) := by decide +kernel
theorem dX9_node_178 : decode cX9_node 178 = .ok (.getfield 75, 3) := by decide +kernel
theorem dX9_node_181 : decode cX9_node 181 = .ok (.aload_n 0, 1) := by decide +kernel
theorem dX9_node_182 : decode cX9_node 182 = .ok (.getfield 254, 3) := by decide +kernel
theorem dX9_node_185 : decode cX9_node 185 = .ok (.iaload, 1) := by decide +kernel
theorem dX9_node_186 : decode cX9_node 186 = .ok (.iastore, 1) := by decide +kernel
theorem dX9_node_187 : decode cX9_node 187 = .ok (.aload_n 0, 1) := by decide +kernel
theorem dX9_node_188 : decode cX9_node 188 = .ok (.getfield 84, 3) := by decide +kernel
theorem dX9_node_191 : decode cX9_node 191 = .ok (.bipush 31, 2) := by decide +kernel
theorem dX9_node_193 : decode cX9_node 193 = .ok (.aload_n 0, 1) := by decide +kernel
theorem dX9_node_194 : decode cX9_node 194 = .ok (.getfield 254, 3) := by decide +kernel
theorem dX9_node_197 : decode cX9_node 197 = .ok (.imul, 1) := by decide +kernel
theorem dX9_node_198 : decode cX9_node 198 = .ok (.aload_n 0, 1) := by decide +kernel
theorem dX9_node_199 : decode cX9_node 199 = .ok (.getfield 75, 3) := by decide +kernel
theorem dX9_node_202 : decode cX9_node 202 = .ok (.aload_n 0, 1) := by decide +kernel
theorem dX9_node_203 : decode cX9_node 203 = .ok (.getfield 254, 3) := by decide +kernel
theorem dX9_node_206 : decode cX9_node 206 = .ok (.iaload, 1) := by decide +kernel
theorem dX9_node_207 : decode cX9_node 207 = .ok (.iadd, 1) := by decide +kernel
theorem dX9_node_208 : decode cX9_node 208 = .ok (.iload_n 2, 1) := by decide +kernel
theorem dX9_node_209 : decode cX9_node 209 = .ok (.iastore, 1) := by decide +kernel
theorem dX9_node_210 : decode cX9_node 210 = .ok (.aload_n 0, 1) := by decide +kernel
theorem dX9_node_211 : decode cX9_node 211 = .ok (.getfield 75, 3) := by decide +kernel
theorem dX9_node_214 : decode cX9_node 214 = .ok (.aload_n 0, 1) := by decide +kernel
theorem dX9_node_215 : decode cX9_node 215 = .ok (.getfield 254, 3) := by decide +kernel
theorem dX9_node_218 : decode cX9_node 218 = .ok (.dup2, 1) := by decide +kernel
theorem dX9_node_219 : decode cX9_node 219 = .ok (.iaload, 1) := by decide +kernel
theorem dX9_node_220 : decode cX9_node 220 = .ok (.iconst 1, 1) := by decide +kernel
theorem dX9_node_221 : decode cX9_node 221 = .ok (.iadd, 1) := by decide +kernel
theorem dX9_node_222 : decode cX9_node 222 = .ok (.iastore, 1) := by decide +kernel
theorem dX9_node_223 : decode cX9_node 223 = .ok (.iload_n 1, 1) := by decide +kernel
theorem dX9_node_224 : decode cX9_node 224 = .ok (.iconst 5, 1) := by decide +kernel
theorem dX9_node_225 : decode cX9_node 225 = .ok (.if_icmp .gt 33, 3) := by decide +kernel
theorem dX9_node_228 : decode cX9_node 228 = .ok (.aload_n 0, 1) := by decide +kernel
theorem dX9_node_229 : decode cX9_node 229 = .ok (.getfield 72, 3) := by decide +kernel
theorem dX9_node_232 : decode cX9_node 232 = .ok (.iload_n 2, 1) := by decide +kernel
theorem dX9_node_233 : decode cX9_node 233 = .ok (.aload_n 0, 1) := by decide +kernel
theorem dX9_node_234 : decode cX9_node 234 = .ok (.getfield 257, 3) := by decide +kernel
theorem dX9_node_237 : decode cX9_node 237 = .ok (.iastore, 1) := by decide +kernel
theorem dX9_node_238 : decode cX9_node 238 = .ok (.aload_n 0, 1) := by decide +kernel
theorem dX9_node_239 : decode cX9_node 239 = .ok (.getfield 69, 3) := by decide +kernel
theorem dX9_node_242 : decode cX9_node 242 = .ok (.aload_n 0, 1) := by decide +kernel
theorem dX9_node_243 : decode cX9_node 243 = .ok (.getfield 257, 3) := by decide +kernel
theorem dX9_node_246 : decode cX9_node 246 = .ok (.iload_n 2, 1) := by decide +kernel
theorem dX9_node_247 : decode cX9_node 247 = .ok (.iastore, 1) := by decide +kernel
theorem dX9_node_248 : decode cX9_node 248 = .ok (.aload_n 0, 1) := by decide +kernel
theorem dX9_node_249 : decode cX9_node 249 = .ok (.dup, 1) := by decide +kernel
theorem dX9_node_250 : decode cX9_node 250 = .ok (.getfield 257, 3) := by decide +kernel
theorem dX9_node_253 : decode cX9_node 253 = .ok (.iconst 1, 1) := by decide +kernel
theorem dX9_node_254 : decode cX9_node 254 = .ok (.iadd, 1) := by decide +kernel
theorem dX9_node_255 : decode cX9_node 255 = .ok (.putfield 257, 3) := by decide +kernel
theorem dX9_node_258 : decode cX9_node 258 = .ok (.iload_n 2, 1) := by decide +kernel
theorem dX9_node_259 : decode cX9_node 259 = .ok (.ireturn, 1) := by decide +kernel
abbrev MX9_node : zT := (yX9_node, cX9_node, 4, (Option.some Jvm.ClassFile.FieldType.int), [])
theorem plX9_node : zplain MX9_node 1 ∧ (zcodeW MX9_node ∈ lw_all ∧ Cond.initialized MX9_node.1.cls ∈ lw_all) := ⟨⟨by decide +kernel, by decide +kernel⟩, q2189, q127⟩
noncomputable def f_X9_node_258 (x2 : Int) (σ : zM) : Option zO :=
  some (0, zi x2, σ)
theorem w_X9_node_258 {g : zG} {lv : Nat} {out : zO} (x2 : Int) (σ : zM) {r : zO} (h : f_X9_node_258 x2 σ = some r) (hk : (fun o : zO => o = out) r) : Gj g MX9_node (lv) 258 [(2, zi x2)] [] σ out := by
  revert h
  unfold f_X9_node_258
  refine zst_ (gj_iload_n 0 (pc := 258) dX9_node_258 rfl) ?_
  intro h
  cases h
  have hk : (0, zi x2, σ) = out := hk
  subst hk
  exact gj_ret (pc := 259) (t := .int) dX9_node_259 rfl ⟨rfl, rfl⟩ (fun h => h)
noncomputable def f_X9_node_223 (x0 x1 x2 : Int) (σ : zM) : Option zO :=
  if 5 < x1 then
    f_X9_node_258 x2 σ
  else
    (zgf σ 929 x0).bind fun v1 =>
    (zgf σ 927 x0).bind fun v2 =>
    (zpa σ 101 v1 x2 v2).bind fun σ3 =>
    (zgf σ3 928 x0).bind fun v4 =>
    (zgf σ3 927 x0).bind fun v5 =>
    (zpa σ3 101 v4 v5 x2).bind fun σ6 =>
    (zgf σ6 927 x0).bind fun v7 =>
    (zpf σ6 927 x0 (zadd v7 1)).bind fun σ8 =>
    f_X9_node_258 x2 σ8
theorem w_X9_node_223 {g : zG} {lv : Nat} {out : zO} (x0 x1 x2 : Int) (σ : zM) {r : zO} (h : f_X9_node_223 x0 x1 x2 σ = some r) (hk : (fun o : zO => o = out) r) : Gj g MX9_node (lv) 223 [(0, zr x0), (1, zi x1), (2, zi x2)] [] σ out := by
  revert h
  unfold f_X9_node_223
  refine zst_ (gj_iload_n 1 (pc := 223) dX9_node_223 rfl) ?_
  refine zst_ (gj_iconst (pc := 224) dX9_node_224 (by decide)) ?_
  refine gb_if (gj_icmp_gt 258 (pc := 225) dX9_node_225 (by decide)) ?_ ?_
  · refine zst_ (gj_sub [2] rfl) ?_
    exact fun h => w_X9_node_258 x2 σ h hk
  · refine zst_ (gj_aload_n 0 (pc := 228) dX9_node_228 rfl) ?_
    refine gb_get (pc := 229) fl929 dX9_node_229 q1911 (Or.inl rfl) (fun v1 => ?_)
    refine zst_ (gj_iload_n 2 (pc := 232) dX9_node_232 rfl) ?_
    refine zst_ (gj_aload_n 0 (pc := 233) dX9_node_233 rfl) ?_
    refine gb_get (pc := 234) fl927 dX9_node_234 q1909 (Or.inl rfl) (fun v2 => ?_)
    refine gb_iast (pc := 237) dX9_node_237 (fun σ3 => ?_)
    refine zst_ (gj_aload_n 0 (pc := 238) dX9_node_238 rfl) ?_
    refine gb_get (pc := 239) fl928 dX9_node_239 q1910 (Or.inl rfl) (fun v4 => ?_)
    refine zst_ (gj_aload_n 0 (pc := 242) dX9_node_242 rfl) ?_
    refine gb_get (pc := 243) fl927 dX9_node_243 q1909 (Or.inl rfl) (fun v5 => ?_)
    refine zst_ (gj_iload_n 2 (pc := 246) dX9_node_246 rfl) ?_
    refine gb_iast (pc := 247) dX9_node_247 (fun σ6 => ?_)
    refine zst_ (gj_aload_n 0 (pc := 248) dX9_node_248 rfl) ?_
    refine zst_ (gj_dup (pc := 249) dX9_node_249 rfl) ?_
    refine gb_get (pc := 250) fl927 dX9_node_250 q1909 (Or.inl rfl) (fun v7 => ?_)
    refine zst_ (gj_iconst (pc := 253) dX9_node_253 (by decide)) ?_
    refine zst_ (gj_iadd (pc := 254) dX9_node_254) ?_
    refine gb_put (pc := 255) fl927 fr927 dX9_node_255 q1909 (Or.inl rfl) (fun σ8 => ?_)
    refine zst_ (gj_sub [2] rfl) ?_
    exact fun h => w_X9_node_258 x2 σ8 h hk
noncomputable def f_X9_node_159 (x0 x1 x2 : Int) (σ : zM) : Option zO :=
  (zgf σ 920 x0).bind fun v1 =>
  (zpa σ 101 v1 x2 (-1)).bind fun σ2 =>
  if 7 < x1 then
    f_X9_node_223 x0 x1 x2 σ2
  else
    (zgf σ2 920 x0).bind fun v3 =>
    (zgf σ2 931 x0).bind fun v4 =>
    (zgf σ2 930 x0).bind fun v5 =>
    (zga σ2 101 v4 v5).bind fun v6 =>
    (zpa σ2 101 v3 x2 v6).bind fun σ7 =>
    (zgf σ7 934 x0).bind fun v8 =>
    (zgf σ7 930 x0).bind fun v9 =>
    (zgf σ7 931 x0).bind fun v10 =>
    (zgf σ7 930 x0).bind fun v11 =>
    (zga σ7 101 v10 v11).bind fun v12 =>
    (zpa σ7 101 v8 (zadd (zmul 31 v9) v12) x2).bind fun σ13 =>
    (zgf σ13 931 x0).bind fun v14 =>
    (zgf σ13 930 x0).bind fun v15 =>
    (zga σ13 101 v14 v15).bind fun v16 =>
    (zpa σ13 101 v14 v15 (zadd v16 1)).bind fun σ17 =>
    f_X9_node_223 x0 x1 x2 σ17
theorem w_X9_node_159 {g : zG} {lv : Nat} {out : zO} (x0 x1 x2 : Int) (σ : zM) {r : zO} (h : f_X9_node_159 x0 x1 x2 σ = some r) (hk : (fun o : zO => o = out) r) : Gj g MX9_node (lv) 159 [(0, zr x0), (1, zi x1), (2, zi x2)] [] σ out := by
  revert h
  unfold f_X9_node_159
  refine zst_ (gj_aload_n 0 (pc := 159) dX9_node_159 rfl) ?_
  refine gb_get (pc := 160) fl920 dX9_node_160 q1902 (Or.inl rfl) (fun v1 => ?_)
  refine zst_ (gj_iload_n 2 (pc := 163) dX9_node_163 rfl) ?_
  refine zst_ (gj_iconst (pc := 164) dX9_node_164 (by decide)) ?_
  refine gb_iast (pc := 165) dX9_node_165 (fun σ2 => ?_)
  refine zst_ (gj_iload_n 1 (pc := 166) dX9_node_166 rfl) ?_
  refine zst_ (gj_bipush (pc := 167) dX9_node_167 ⟨rfl, by decide⟩) ?_
  refine gb_if (gj_icmp_gt 223 (pc := 169) dX9_node_169 (by decide)) ?_ ?_
  · exact fun h => w_X9_node_223 x0 x1 x2 σ2 h hk
  · refine zst_ (gj_aload_n 0 (pc := 172) dX9_node_172 rfl) ?_
    refine gb_get (pc := 173) fl920 dX9_node_173 q1902 (Or.inl rfl) (fun v3 => ?_)
    refine zst_ (gj_iload_n 2 (pc := 176) dX9_node_176 rfl) ?_
    refine zst_ (gj_aload_n 0 (pc := 177) dX9_node_177 rfl) ?_
    refine gb_get (pc := 178) fl931 dX9_node_178 q1913 (Or.inl rfl) (fun v4 => ?_)
    refine zst_ (gj_aload_n 0 (pc := 181) dX9_node_181 rfl) ?_
    refine gb_get (pc := 182) fl930 dX9_node_182 q1912 (Or.inl rfl) (fun v5 => ?_)
    refine gb_iald (pc := 185) dX9_node_185 (fun v6 => ?_)
    refine gb_iast (pc := 186) dX9_node_186 (fun σ7 => ?_)
    refine zst_ (gj_aload_n 0 (pc := 187) dX9_node_187 rfl) ?_
    refine gb_get (pc := 188) fl934 dX9_node_188 q1916 (Or.inl rfl) (fun v8 => ?_)
    refine zst_ (gj_bipush (pc := 191) dX9_node_191 ⟨rfl, by decide⟩) ?_
    refine zst_ (gj_aload_n 0 (pc := 193) dX9_node_193 rfl) ?_
    refine gb_get (pc := 194) fl930 dX9_node_194 q1912 (Or.inl rfl) (fun v9 => ?_)
    refine zst_ (gj_imul (pc := 197) dX9_node_197) ?_
    refine zst_ (gj_aload_n 0 (pc := 198) dX9_node_198 rfl) ?_
    refine gb_get (pc := 199) fl931 dX9_node_199 q1913 (Or.inl rfl) (fun v10 => ?_)
    refine zst_ (gj_aload_n 0 (pc := 202) dX9_node_202 rfl) ?_
    refine gb_get (pc := 203) fl930 dX9_node_203 q1912 (Or.inl rfl) (fun v11 => ?_)
    refine gb_iald (pc := 206) dX9_node_206 (fun v12 => ?_)
    refine zst_ (gj_iadd (pc := 207) dX9_node_207) ?_
    refine zst_ (gj_iload_n 2 (pc := 208) dX9_node_208 rfl) ?_
    refine gb_iast (pc := 209) dX9_node_209 (fun σ13 => ?_)
    refine zst_ (gj_aload_n 0 (pc := 210) dX9_node_210 rfl) ?_
    refine gb_get (pc := 211) fl931 dX9_node_211 q1913 (Or.inl rfl) (fun v14 => ?_)
    refine zst_ (gj_aload_n 0 (pc := 214) dX9_node_214 rfl) ?_
    refine gb_get (pc := 215) fl930 dX9_node_215 q1912 (Or.inl rfl) (fun v15 => ?_)
    refine zst_ (gj_dup2 (pc := 218) dX9_node_218 rfl rfl) ?_
    refine gb_iald (pc := 219) dX9_node_219 (fun v16 => ?_)
    refine zst_ (gj_iconst (pc := 220) dX9_node_220 (by decide)) ?_
    refine zst_ (gj_iadd (pc := 221) dX9_node_221) ?_
    refine gb_iast (pc := 222) dX9_node_222 (fun σ17 => ?_)
    exact fun h => w_X9_node_223 x0 x1 x2 σ17 h hk
noncomputable def f_X9_node_153 (x0 x1 x2 x3 : Int) (σ : zM) : Option ((Int × zM) ⊕ zO) :=
  zlet (zadd x3 1) fun y1 =>
  some (.inl (y1, σ))
theorem w_X9_node_153 {g : zG} {lv : Nat} {out : zO} (x0 x1 x2 x3 : Int) (σ : zM) {r : ((Int × zM) ⊕ zO)} (h : f_X9_node_153 x0 x1 x2 x3 σ = some r) (hk : (zKL (fun s : Int × zM => Gj g MX9_node (lv) 123 [(0, zr x0), (1, zi x1), (2, zi x2), (3, zi s.1)] [] s.2 out) (fun o : zO => o = out)) r) : Gj g MX9_node (lv) 153 [(0, zr x0), (1, zi x1), (2, zi x2), (3, zi x3)] [] σ out := by
  revert h
  unfold f_X9_node_153
  refine gb_iinc (pc := 153) 3 (fun y1 => [(3, zi y1), (0, zr x0), (1, zi x1), (2, zi x2)]) dX9_node_153 rfl (by decide) (fun _ => rfl) (fun y1 => ?_)
  refine zst_ (gj_goto 123 (pc := 156) dX9_node_156 (by decide)) ?_
  refine zst_ (gj_sub [1, 2, 3, 0] rfl) ?_
  intro h
  cases h
  exact hk
noncomputable def f_X9_node_123_b (x0 x1 x2 x3 : Int) (σ : zM) : Option ((Int × zM) ⊕ zO) :=
  (zgf σ 938 x0).bind fun v1 =>
  if v1 < x3 then
    (f_X9_node_159 x0 x1 x2 σ).map (fun r => (.inr r))
  else
    (zgf σ 939 x0).bind fun v2 =>
    (zga σ 101 v2 x3).bind fun v3 =>
    if v3 ≠ 3 then
      f_X9_node_153 x0 x1 x2 x3 σ
    else
      (zgf σ 919 x0).bind fun v4 =>
      (zgf σ 940 x0).bind fun v5 =>
      (zga σ 101 v5 x3).bind fun v6 =>
      (zpa σ 101 v4 x2 v6).bind fun σ7 =>
      f_X9_node_153 x0 x1 x2 x3 σ7
noncomputable def f_X9_node_123 (x0 x1 x2 x3 : Int) (σ : zM) : Option zO :=
  zloop (fun s : Int × zM => f_X9_node_123_b x0 x1 x2 s.1 s.2) (x3, σ)
theorem w_X9_node_123_b {g : zG} {lv : Nat} {out : zO} (x0 x1 x2 x3 : Int) (σ : zM) {r : ((Int × zM) ⊕ zO)} (h : f_X9_node_123_b x0 x1 x2 x3 σ = some r) (hk : (zKL (fun s : Int × zM => Gj g MX9_node (lv) 123 [(0, zr x0), (1, zi x1), (2, zi x2), (3, zi s.1)] [] s.2 out) (fun o : zO => o = out)) r) : Gj g MX9_node (lv) 123 [(0, zr x0), (1, zi x1), (2, zi x2), (3, zi x3)] [] σ out := by
  revert h
  unfold f_X9_node_123_b
  refine zst_ (gj_iload_n 3 (pc := 123) dX9_node_123 rfl) ?_
  refine zst_ (gj_aload_n 0 (pc := 124) dX9_node_124 rfl) ?_
  refine gb_get (pc := 125) fl938 dX9_node_125 q1920 (Or.inl rfl) (fun v1 => ?_)
  refine gb_if (gj_icmp_gt 159 (pc := 128) dX9_node_128 (by decide)) ?_ ?_
  · refine zst_ (gj_sub [0, 1, 2] rfl) ?_
    intro h
    obtain ⟨r0, h0, rfl⟩ := zmE h
    exact w_X9_node_159 x0 x1 x2 σ h0 hk
  · refine zst_ (gj_aload_n 0 (pc := 131) dX9_node_131 rfl) ?_
    refine gb_get (pc := 132) fl939 dX9_node_132 q1921 (Or.inl rfl) (fun v2 => ?_)
    refine zst_ (gj_iload_n 3 (pc := 135) dX9_node_135 rfl) ?_
    refine gb_iald (pc := 136) dX9_node_136 (fun v3 => ?_)
    refine zst_ (gj_iconst (pc := 137) dX9_node_137 (by decide)) ?_
    refine gb_if (gj_icmp_ne 153 (pc := 138) dX9_node_138 (by decide)) ?_ ?_
    · exact fun h => w_X9_node_153 x0 x1 x2 x3 σ h hk
    · refine zst_ (gj_aload_n 0 (pc := 141) dX9_node_141 rfl) ?_
      refine gb_get (pc := 142) fl919 dX9_node_142 q1901 (Or.inl rfl) (fun v4 => ?_)
      refine zst_ (gj_iload_n 2 (pc := 145) dX9_node_145 rfl) ?_
      refine zst_ (gj_aload_n 0 (pc := 146) dX9_node_146 rfl) ?_
      refine gb_get (pc := 147) fl940 dX9_node_147 q1922 (Or.inl rfl) (fun v5 => ?_)
      refine zst_ (gj_iload_n 3 (pc := 150) dX9_node_150 rfl) ?_
      refine gb_iald (pc := 151) dX9_node_151 (fun v6 => ?_)
      refine gb_iast (pc := 152) dX9_node_152 (fun σ7 => ?_)
      exact fun h => w_X9_node_153 x0 x1 x2 x3 σ7 h hk
theorem w_X9_node_123 {g : zG} {lv : Nat} {out : zO} (x0 x1 x2 x3 : Int) (σ : zM) {r : zO} (h : f_X9_node_123 x0 x1 x2 x3 σ = some r) (hk : (fun o : zO => o = out) r) : Gj g MX9_node (lv) 123 [(0, zr x0), (1, zi x1), (2, zi x2), (3, zi x3)] [] σ out :=
  gj_loop (P := (fun s : Int × zM => Gj g MX9_node (lv) 123 [(0, zr x0), (1, zi x1), (2, zi x2), (3, zi s.1)] [] s.2 out)) (fun s x hb hx => w_X9_node_123_b x0 x1 x2 s.1 s.2 hb hx) h hk
noncomputable def f_X9_node_104 (x0 x1 x2 : Int) (σ : zM) : Option zO :=
  (zgf σ 941 x0).bind fun v1 =>
  (zgf σ 938 x0).bind fun v2 =>
  (zpa σ 101 v1 v2 x2).bind fun σ3 =>
  (zgf σ3 919 x0).bind fun v4 =>
  (zpa σ3 101 v4 x2 (-1)).bind fun σ5 =>
  f_X9_node_123 x0 x1 x2 1 σ5
theorem w_X9_node_104 {g : zG} {lv : Nat} {out : zO} (x0 x1 x2 : Int) (σ : zM) {r : zO} (h : f_X9_node_104 x0 x1 x2 σ = some r) (hk : (fun o : zO => o = out) r) : Gj g MX9_node (lv) 104 [(0, zr x0), (1, zi x1), (2, zi x2)] [] σ out := by
  revert h
  unfold f_X9_node_104
  refine zst_ (gj_aload_n 0 (pc := 104) dX9_node_104 rfl) ?_
  refine gb_get (pc := 105) fl941 dX9_node_105 q1923 (Or.inl rfl) (fun v1 => ?_)
  refine zst_ (gj_aload_n 0 (pc := 108) dX9_node_108 rfl) ?_
  refine gb_get (pc := 109) fl938 dX9_node_109 q1920 (Or.inl rfl) (fun v2 => ?_)
  refine zst_ (gj_iload_n 2 (pc := 112) dX9_node_112 rfl) ?_
  refine gb_iast (pc := 113) dX9_node_113 (fun σ3 => ?_)
  refine zst_ (gj_aload_n 0 (pc := 114) dX9_node_114 rfl) ?_
  refine gb_get (pc := 115) fl919 dX9_node_115 q1901 (Or.inl rfl) (fun v4 => ?_)
  refine zst_ (gj_iload_n 2 (pc := 118) dX9_node_118 rfl) ?_
  refine zst_ (gj_iconst (pc := 119) dX9_node_119 (by decide)) ?_
  refine gb_iast (pc := 120) dX9_node_120 (fun σ5 => ?_)
  refine zst_ (gj_iconst (pc := 121) dX9_node_121 (by decide)) ?_
  refine zst_ (gj_istore_n (pc := 122) (ls' := [(3, zi 1), (0, zr x0), (1, zi x1), (2, zi x2)]) dX9_node_122 (by decide) rfl) ?_
  refine zst_ (gj_sub [1, 2, 3, 0] rfl) ?_
  exact fun h => w_X9_node_123 x0 x1 x2 1 σ5 h hk
noncomputable def f_X9_node_76 (x0 x1 x2 t0 t1 t2 : Int) (σ : zM) : Option zO :=
  zgd (z01 t0) <|
  (zpa σ 103 t2 t1 t0).bind fun σ1 =>
  (zgf σ1 941 x0).bind fun v2 =>
  (zgf σ1 938 x0).bind fun v3 =>
  (zga σ1 101 v2 v3).bind fun v4 =>
  if v4 < 0 then
    f_X9_node_104 x0 x1 x2 σ1
  else
    (zgf σ1 917 x0).bind fun v5 =>
    (zgf σ1 941 x0).bind fun v6 =>
    (zgf σ1 938 x0).bind fun v7 =>
    (zga σ1 101 v6 v7).bind fun v8 =>
    (zpa σ1 101 v5 v8 x2).bind fun σ9 =>
    f_X9_node_104 x0 x1 x2 σ9
theorem w_X9_node_76 {g : zG} {lv : Nat} {out : zO} (x0 x1 x2 t0 t1 t2 : Int) (σ : zM) {r : zO} (h : f_X9_node_76 x0 x1 x2 t0 t1 t2 σ = some r) (hk : (fun o : zO => o = out) r) : Gj g MX9_node (lv) 76 [(0, zr x0), (1, zi x1), (2, zi x2)] [zi t0, zi t1, zr t2] σ out := by
  revert h
  unfold f_X9_node_76
  refine gb_gd (fun hb => ?_)
  refine gb_zast (pc := 76) (z01E hb) dX9_node_76 (fun σ1 => ?_)
  refine zst_ (gj_aload_n 0 (pc := 77) dX9_node_77 rfl) ?_
  refine gb_get (pc := 78) fl941 dX9_node_78 q1923 (Or.inl rfl) (fun v2 => ?_)
  refine zst_ (gj_aload_n 0 (pc := 81) dX9_node_81 rfl) ?_
  refine gb_get (pc := 82) fl938 dX9_node_82 q1920 (Or.inl rfl) (fun v3 => ?_)
  refine gb_iald (pc := 85) dX9_node_85 (fun v4 => ?_)
  refine gb_if (gj_if_lt 104 (pc := 86) dX9_node_86 (by decide)) ?_ ?_
  · exact fun h => w_X9_node_104 x0 x1 x2 σ1 h hk
  · refine zst_ (gj_aload_n 0 (pc := 89) dX9_node_89 rfl) ?_
    refine gb_get (pc := 90) fl917 dX9_node_90 q1899 (Or.inl rfl) (fun v5 => ?_)
    refine zst_ (gj_aload_n 0 (pc := 93) dX9_node_93 rfl) ?_
    refine gb_get (pc := 94) fl941 dX9_node_94 q1923 (Or.inl rfl) (fun v6 => ?_)
    refine zst_ (gj_aload_n 0 (pc := 97) dX9_node_97 rfl) ?_
    refine gb_get (pc := 98) fl938 dX9_node_98 q1920 (Or.inl rfl) (fun v7 => ?_)
    refine gb_iald (pc := 101) dX9_node_101 (fun v8 => ?_)
    refine zst_ (gj_iload_n 2 (pc := 102) dX9_node_102 rfl) ?_
    refine gb_iast (pc := 103) dX9_node_103 (fun σ9 => ?_)
    exact fun h => w_X9_node_104 x0 x1 x2 σ9 h hk
noncomputable def f_X9_node (x0 x1 : Int) (σ : zM) : Option zO :=
  (zgf σ 913 x0).bind fun v1 =>
  (zgf σ 913 x0).bind fun v2 =>
  (zpf σ 913 x0 (zadd v2 1)).bind fun σ3 =>
  (zgf σ3 914 x0).bind fun v4 =>
  (zpa σ3 101 v4 v1 x1).bind fun σ5 =>
  (zgf σ5 915 x0).bind fun v6 =>
  (zgf σ5 930 x0).bind fun v7 =>
  (zpa σ5 101 v6 v1 v7).bind fun σ8 =>
  (zgf σ8 916 x0).bind fun v9 =>
  (zgf σ8 940 x0).bind fun v10 =>
  (zgf σ8 938 x0).bind fun v11 =>
  (zga σ8 101 v10 v11).bind fun v12 =>
  (zpa σ8 101 v9 v1 v12).bind fun σ13 =>
  (zgf σ13 917 x0).bind fun v14 =>
  (zpa σ13 101 v14 v1 (-1)).bind fun σ15 =>
  (zgf σ15 918 x0).bind fun v16 =>
  (zgf σ15 941 x0).bind fun v17 =>
  (zgf σ15 938 x0).bind fun v18 =>
  (zga σ15 101 v17 v18).bind fun v19 =>
  if 0 ≤ v19 then
    f_X9_node_76 x0 x1 v1 0 v1 v16 σ15
  else
    f_X9_node_76 x0 x1 v1 1 v1 v16 σ15
theorem c_X9_node {g : zG} {lv : Nat} {x0 x1 : Int} {σ : zM} {out : zO} (h : f_X9_node x0 x1 σ = some out) : Cj g (lv) MX9_node [zr x0, zi x1] σ out := by
  refine cj_go (ls := [(0, zr x0), (1, zi x1)]) (by decide) (Nat.le_of_ble_eq_true rfl) rfl (zgen h (fun r hk => ?_))
  unfold f_X9_node
  refine zst_ (gj_aload_n 0 (pc := 0) dX9_node_0 rfl) ?_
  refine gb_get (pc := 1) fl913 dX9_node_1 q1895 (Or.inl rfl) (fun v1 => ?_)
  refine zst_ (gj_istore_n (pc := 4) (ls' := [(2, zi v1), (0, zr x0), (1, zi x1)]) dX9_node_4 (by decide) rfl) ?_
  refine zst_ (gj_aload_n 1 (pc := 5) dX9_node_5 rfl) ?_
  refine zst_ (gj_dup (pc := 6) dX9_node_6 rfl) ?_
  refine gb_get (pc := 7) fl913 dX9_node_7 q1895 (Or.inl rfl) (fun v2 => ?_)
  refine zst_ (gj_iconst (pc := 10) dX9_node_10 (by decide)) ?_
  refine zst_ (gj_iadd (pc := 11) dX9_node_11) ?_
  refine gb_put (pc := 12) fl913 fr913 dX9_node_12 q1895 (Or.inl rfl) (fun σ3 => ?_)
  refine zst_ (gj_aload_n 1 (pc := 15) dX9_node_15 rfl) ?_
  refine gb_get (pc := 16) fl914 dX9_node_16 q1896 (Or.inl rfl) (fun v4 => ?_)
  refine zst_ (gj_iload_n 0 (pc := 19) dX9_node_19 rfl) ?_
  refine zst_ (gj_iload_n 2 (pc := 20) dX9_node_20 rfl) ?_
  refine gb_iast (pc := 21) dX9_node_21 (fun σ5 => ?_)
  refine zst_ (gj_aload_n 1 (pc := 22) dX9_node_22 rfl) ?_
  refine gb_get (pc := 23) fl915 dX9_node_23 q1897 (Or.inl rfl) (fun v6 => ?_)
  refine zst_ (gj_iload_n 0 (pc := 26) dX9_node_26 rfl) ?_
  refine zst_ (gj_aload_n 1 (pc := 27) dX9_node_27 rfl) ?_
  refine gb_get (pc := 28) fl930 dX9_node_28 q1912 (Or.inl rfl) (fun v7 => ?_)
  refine gb_iast (pc := 31) dX9_node_31 (fun σ8 => ?_)
  refine zst_ (gj_aload_n 1 (pc := 32) dX9_node_32 rfl) ?_
  refine gb_get (pc := 33) fl916 dX9_node_33 q1898 (Or.inl rfl) (fun v9 => ?_)
  refine zst_ (gj_iload_n 0 (pc := 36) dX9_node_36 rfl) ?_
  refine zst_ (gj_aload_n 1 (pc := 37) dX9_node_37 rfl) ?_
  refine gb_get (pc := 38) fl940 dX9_node_38 q1922 (Or.inl rfl) (fun v10 => ?_)
  refine zst_ (gj_aload_n 1 (pc := 41) dX9_node_41 rfl) ?_
  refine gb_get (pc := 42) fl938 dX9_node_42 q1920 (Or.inl rfl) (fun v11 => ?_)
  refine gb_iald (pc := 45) dX9_node_45 (fun v12 => ?_)
  refine gb_iast (pc := 46) dX9_node_46 (fun σ13 => ?_)
  refine zst_ (gj_aload_n 1 (pc := 47) dX9_node_47 rfl) ?_
  refine gb_get (pc := 48) fl917 dX9_node_48 q1899 (Or.inl rfl) (fun v14 => ?_)
  refine zst_ (gj_iload_n 0 (pc := 51) dX9_node_51 rfl) ?_
  refine zst_ (gj_iconst (pc := 52) dX9_node_52 (by decide)) ?_
  refine gb_iast (pc := 53) dX9_node_53 (fun σ15 => ?_)
  refine zst_ (gj_aload_n 1 (pc := 54) dX9_node_54 rfl) ?_
  refine gb_get (pc := 55) fl918 dX9_node_55 q1900 (Or.inl rfl) (fun v16 => ?_)
  refine zst_ (gj_iload_n 0 (pc := 58) dX9_node_58 rfl) ?_
  refine zst_ (gj_aload_n 1 (pc := 59) dX9_node_59 rfl) ?_
  refine gb_get (pc := 60) fl941 dX9_node_60 q1923 (Or.inl rfl) (fun v17 => ?_)
  refine zst_ (gj_aload_n 1 (pc := 63) dX9_node_63 rfl) ?_
  refine gb_get (pc := 64) fl938 dX9_node_64 q1920 (Or.inl rfl) (fun v18 => ?_)
  refine gb_iald (pc := 67) dX9_node_67 (fun v19 => ?_)
  refine gb_if (gj_if_ge 75 (pc := 68) dX9_node_68 (by decide)) ?_ ?_
  · refine zst_ (gj_iconst (pc := 75) dX9_node_75 (by decide)) ?_
    refine zst_ (gj_sub [1, 2, 0] rfl) ?_
    exact fun h => w_X9_node_76 x0 x1 v1 0 v1 v16 σ15 h hk
  · refine zst_ (gj_iconst (pc := 71) dX9_node_71 (by decide)) ?_
    refine zst_ (gj_goto 76 (pc := 72) dX9_node_72 (by decide)) ?_
    refine zst_ (gj_sub [1, 2, 0] rfl) ?_
    exact fun h => w_X9_node_76 x0 x1 v1 1 v1 v16 σ15 h hk
theorem q2193 : (Jvm.Cond.code ({ cls := "LassoFinderModel", name := "enter", desc := "(II)V" } : Jvm.MethodName) prog_22_method_17_code (3 : Nat) (Option.none : Option Jvm.ClassFile.FieldType)) ∈ lw_all := lw_g (lw_at lw_m9 173 rfl) rfl
abbrev cX9_enter : ByteArray := prog_22_method_17_code
def yX9_enter : MethodName := ⟨RX9, "enter", "(II)V"⟩
theorem dX9_enter_0 : decode cX9_enter 0 = .ok (.aload_n 0, 1) := by decide +kernel
theorem dX9_enter_1 : decode cX9_enter 1 = .ok (.dup, 1) := by decide +kernel
theorem dX9_enter_2 : decode cX9_enter 2 = .ok (.getfield 248, 3) := by decide +kernel
theorem dX9_enter_5 : decode cX9_enter 5 = .ok (.iconst 1, 1) := by decide +kernel
theorem dX9_enter_6 : decode cX9_enter 6 = .ok (.iadd, 1) := by decide +kernel
theorem dX9_enter_7 : decode cX9_enter 7 = .ok (.putfield 248, 3) := by decide +kernel
theorem dX9_enter_10 : decode cX9_enter 10 = .ok (.aload_n 0, 1) := by decide +kernel
theorem dX9_enter_11 : decode cX9_enter 11 = .ok (.getfield 94, 3) := by decide +kernel
theorem dX9_enter_14 : decode cX9_enter 14 = .ok (.aload_n 0, 1) := by decide +kernel
theorem dX9_enter_15 : decode cX9_enter 15 = .ok (.getfield 248, 3) := by decide +kernel
theorem dX9_enter_18 : decode cX9_enter 18 = .ok (.iload_n 1, 1) := by decide +kernel
theorem dX9_enter_19 : decode cX9_enter 19 = .ok (.iastore, 1) := by decide +kernel
theorem dX9_enter_20 : decode cX9_enter 20 = .ok (.aload_n 0, 1) := by decide +kernel
theorem dX9_enter_21 : decode cX9_enter 21 = .ok (.getfield 97, 3) := by decide +kernel
theorem dX9_enter_24 : decode cX9_enter 24 = .ok (.aload_n 0, 1) := by decide +kernel
theorem dX9_enter_25 : decode cX9_enter 25 = .ok (.getfield 248, 3) := by decide +kernel
theorem dX9_enter_28 : decode cX9_enter 28 = .ok (.iload_n 2, 1) := by decide +kernel
theorem dX9_enter_29 : decode cX9_enter 29 = .ok (.iastore, 1) := by decide +kernel
theorem dX9_enter_30 : decode cX9_enter 30 = .ok (.aload_n 0, 1) := by decide +kernel
theorem dX9_enter_31 : decode cX9_enter 31 = .ok (.getfield 100, 3) := by decide +kernel
theorem dX9_enter_34 : decode cX9_enter 34 = .ok (.aload_n 0, 1) := by decide +kernel
theorem dX9_enter_35 : decode cX9_enter 35 = .ok (.getfield 248, 3) := by decide +kernel
theorem dX9_enter_38 : decode cX9_enter 38 = .ok (.iconst (-1), 1) := by decide +kernel
theorem dX9_enter_39 : decode cX9_enter 39 = .ok (.iastore, 1) := by decide +kernel
theorem dX9_enter_40 : decode cX9_enter 40 = .ok (.aload_n 0, 1) := by decide +kernel
theorem dX9_enter_41 : decode cX9_enter 41 = .ok (.dup, 1) := by decide +kernel
theorem dX9_enter_42 : decode cX9_enter 42 = .ok (.getfield 203, 3) := by decide +kernel
theorem dX9_enter_45 : decode cX9_enter 45 = .ok (.iconst 1, 1) := by decide +kernel
theorem dX9_enter_46 : decode cX9_enter 46 = .ok (.iadd, 1) := by decide +kernel
theorem dX9_enter_47 : decode cX9_enter 47 = .ok (.putfield 203, 3) := by decide +kernel
theorem dX9_enter_50 : decode cX9_enter 50 = .ok (.return_, 1) := by decide +kernel
abbrev MX9_enter : zT := (yX9_enter, cX9_enter, 3, (Option.none : Option Jvm.ClassFile.FieldType), [])
theorem plX9_enter : zplain MX9_enter 2 ∧ (zcodeW MX9_enter ∈ lw_all ∧ Cond.initialized MX9_enter.1.cls ∈ lw_all) := ⟨⟨by decide +kernel, by decide +kernel⟩, q2193, q127⟩
noncomputable def f_X9_enter (x0 x1 x2 : Int) (σ : zM) : Option zO :=
  (zgf σ 938 x0).bind fun v1 =>
  (zpf σ 938 x0 (zadd v1 1)).bind fun σ2 =>
  (zgf σ2 939 x0).bind fun v3 =>
  (zgf σ2 938 x0).bind fun v4 =>
  (zpa σ2 101 v3 v4 x1).bind fun σ5 =>
  (zgf σ5 940 x0).bind fun v6 =>
  (zgf σ5 938 x0).bind fun v7 =>
  (zpa σ5 101 v6 v7 x2).bind fun σ8 =>
  (zgf σ8 941 x0).bind fun v9 =>
  (zgf σ8 938 x0).bind fun v10 =>
  (zpa σ8 101 v9 v10 (-1)).bind fun σ11 =>
  (zgf σ11 903 x0).bind fun v12 =>
  (zpf σ11 903 x0 (zadd v12 1)).bind fun σ13 =>
  some (0, ((3, 0) : zV), σ13)
theorem c_X9_enter {g : zG} {lv : Nat} {x0 x1 x2 : Int} {σ : zM} {out : zO} (h : f_X9_enter x0 x1 x2 σ = some out) : Cj g (lv) MX9_enter [zr x0, zi x1, zi x2] σ out := by
  refine cj_go (ls := [(0, zr x0), (1, zi x1), (2, zi x2)]) (by decide) (Nat.le_of_ble_eq_true rfl) rfl (zgen h (fun r hk => ?_))
  unfold f_X9_enter
  refine zst_ (gj_aload_n 0 (pc := 0) dX9_enter_0 rfl) ?_
  refine zst_ (gj_dup (pc := 1) dX9_enter_1 rfl) ?_
  refine gb_get (pc := 2) fl938 dX9_enter_2 q1920 (Or.inl rfl) (fun v1 => ?_)
  refine zst_ (gj_iconst (pc := 5) dX9_enter_5 (by decide)) ?_
  refine zst_ (gj_iadd (pc := 6) dX9_enter_6) ?_
  refine gb_put (pc := 7) fl938 fr938 dX9_enter_7 q1920 (Or.inl rfl) (fun σ2 => ?_)
  refine zst_ (gj_aload_n 0 (pc := 10) dX9_enter_10 rfl) ?_
  refine gb_get (pc := 11) fl939 dX9_enter_11 q1921 (Or.inl rfl) (fun v3 => ?_)
  refine zst_ (gj_aload_n 0 (pc := 14) dX9_enter_14 rfl) ?_
  refine gb_get (pc := 15) fl938 dX9_enter_15 q1920 (Or.inl rfl) (fun v4 => ?_)
  refine zst_ (gj_iload_n 1 (pc := 18) dX9_enter_18 rfl) ?_
  refine gb_iast (pc := 19) dX9_enter_19 (fun σ5 => ?_)
  refine zst_ (gj_aload_n 0 (pc := 20) dX9_enter_20 rfl) ?_
  refine gb_get (pc := 21) fl940 dX9_enter_21 q1922 (Or.inl rfl) (fun v6 => ?_)
  refine zst_ (gj_aload_n 0 (pc := 24) dX9_enter_24 rfl) ?_
  refine gb_get (pc := 25) fl938 dX9_enter_25 q1920 (Or.inl rfl) (fun v7 => ?_)
  refine zst_ (gj_iload_n 2 (pc := 28) dX9_enter_28 rfl) ?_
  refine gb_iast (pc := 29) dX9_enter_29 (fun σ8 => ?_)
  refine zst_ (gj_aload_n 0 (pc := 30) dX9_enter_30 rfl) ?_
  refine gb_get (pc := 31) fl941 dX9_enter_31 q1923 (Or.inl rfl) (fun v9 => ?_)
  refine zst_ (gj_aload_n 0 (pc := 34) dX9_enter_34 rfl) ?_
  refine gb_get (pc := 35) fl938 dX9_enter_35 q1920 (Or.inl rfl) (fun v10 => ?_)
  refine zst_ (gj_iconst (pc := 38) dX9_enter_38 (by decide)) ?_
  refine gb_iast (pc := 39) dX9_enter_39 (fun σ11 => ?_)
  refine zst_ (gj_aload_n 0 (pc := 40) dX9_enter_40 rfl) ?_
  refine zst_ (gj_dup (pc := 41) dX9_enter_41 rfl) ?_
  refine gb_get (pc := 42) fl903 dX9_enter_42 q1885 (Or.inl rfl) (fun v12 => ?_)
  refine zst_ (gj_iconst (pc := 45) dX9_enter_45 (by decide)) ?_
  refine zst_ (gj_iadd (pc := 46) dX9_enter_46) ?_
  refine gb_put (pc := 47) fl903 fr903 dX9_enter_47 q1885 (Or.inl rfl) (fun σ13 => ?_)
  intro h
  cases h
  have hk : (0, ((3, 0) : zV), σ13) = out := hk
  subst hk
  exact gj_vret (pc := 50) dX9_enter_50 rfl
theorem q2197 : (Jvm.Cond.code ({ cls := "LassoFinderModel", name := "around", desc := "(I)Z" } : Jvm.MethodName) prog_22_method_15_code (4 : Nat) (Option.some Jvm.ClassFile.FieldType.boolean)) ∈ lw_all := lw_g (lw_at lw_m9 177 rfl) rfl
abbrev cX9_around : ByteArray := prog_22_method_15_code
def yX9_around : MethodName := ⟨RX9, "around", "(I)Z"⟩
theorem dX9_around_0 : decode cX9_around 0 = .ok (.iconst 0, 1) := by decide +kernel
theorem dX9_around_1 : decode cX9_around 1 = .ok (.istore_n 2, 1) := by decide +kernel
theorem dX9_around_2 : decode cX9_around 2 = .ok (.iconst 1, 1) := by decide +kernel
theorem dX9_around_3 : decode cX9_around 3 = .ok (.istore_n 3, 1) := by decide +kernel
theorem dX9_around_4 : decode cX9_around 4 = .ok (.iload_n 3, 1) := by decide +kernel
theorem dX9_around_5 : decode cX9_around 5 = .ok (.aload_n 0, 1) := by decide +kernel
theorem dX9_around_6 : decode cX9_around 6 = .ok (.getfield 248, 3) := by decide +kernel
theorem dX9_around_9 : decode cX9_around 9 = .ok (.if_icmp .gt 29, 3) := by decide +kernel
theorem dX9_around_12 : decode cX9_around 12 = .ok (.iload_n 2, 1) := by decide +kernel
theorem dX9_around_13 : decode cX9_around 13 = .ok (.ifCond .ne 13, 3) := by decide +kernel
theorem dX9_around_16 : decode cX9_around 16 = .ok (.aload_n 0, 1) := by decide +kernel
theorem dX9_around_17 : decode cX9_around 17 = .ok (.getfield 94, 3) := by decide +kernel
theorem dX9_around_20 : decode cX9_around 20 = .ok (.iload_n 3, 1) := by decide +kernel
theorem dX9_around_21 : decode cX9_around 21 = .ok (.iaload, 1) := by decide +kernel
theorem dX9_around_22 : decode cX9_around 22 = .ok (.iload_n 1, 1) := by decide +kernel
theorem dX9_around_23 : decode cX9_around 23 = .ok (.if_icmp .ne 7, 3) := by decide +kernel
theorem dX9_around_26 : decode cX9_around 26 = .ok (.iconst 1, 1) := by decide +kernel
theorem dX9_around_27 : decode cX9_around 27 = .ok (.goto 4, 3) := by decide +kernel
theorem dX9_around_30 : decode cX9_around 30 = .ok (.iconst 0, 1) := by decide +kernel
theorem dX9_around_31 : decode cX9_around 31 = .ok (.istore_n 2, 1) := by decide +kernel
theorem dX9_around_32 : decode cX9_around 32 = .ok (.iinc 3 1, 3) := by decide +kernel
theorem dX9_around_35 : decode cX9_around 35 = .ok (.goto (-31), 3) := by decide +kernel
theorem dX9_around_38 : decode cX9_around 38 = .ok (.iload_n 2, 1) := by decide +kernel
theorem dX9_around_39 : decode cX9_around 39 = .ok (.ireturn, 1) := by decide +kernel
abbrev MX9_around : zT := (yX9_around, cX9_around, 4, (Option.some Jvm.ClassFile.FieldType.boolean), [])
theorem plX9_around : zplain MX9_around 1 ∧ (zcodeW MX9_around ∈ lw_all ∧ Cond.initialized MX9_around.1.cls ∈ lw_all) := ⟨⟨by decide +kernel, by decide +kernel⟩, q2197, q127⟩
noncomputable def f_X9_around_38 (x2 : Int) (σ : zM) : Option zO :=
  zgd (z01 x2) <|
  some (0, zi x2, σ)
theorem w_X9_around_38 {g : zG} {lv : Nat} {out : zO} (x2 : Int) (σ : zM) {r : zO} (h : f_X9_around_38 x2 σ = some r) (hk : (fun o : zO => o = out) r) : Gj g MX9_around (lv) 38 [(2, zi x2)] [] σ out := by
  revert h
  unfold f_X9_around_38
  refine zst_ (gj_iload_n 0 (pc := 38) dX9_around_38 rfl) ?_
  refine gb_gd (fun hb => ?_)
  intro h
  cases h
  have hk : (0, zi x2, σ) = out := hk
  subst hk
  exact gj_ret (pc := 39) (t := .boolean) dX9_around_39 rfl ⟨rfl, rfl⟩ (fun _ => z01E hb)
noncomputable def f_X9_around_31 (x0 x1 x3 t0 : Int) (σ : zM) : Option ((Int × Int) ⊕ zO) :=
  zlet (zadd x3 1) fun y1 =>
  some (.inl (t0, y1))
theorem w_X9_around_31 {g : zG} {lv : Nat} {out : zO} (x0 x1 x3 t0 : Int) (σ : zM) {r : ((Int × Int) ⊕ zO)} (h : f_X9_around_31 x0 x1 x3 t0 σ = some r) (hk : (zKL (fun s : Int × Int => Gj g MX9_around (lv) 4 [(0, zr x0), (1, zi x1), (2, zi s.1), (3, zi s.2)] [] σ out) (fun o : zO => o = out)) r) : Gj g MX9_around (lv) 31 [(0, zr x0), (1, zi x1), (3, zi x3)] [zi t0] σ out := by
  revert h
  unfold f_X9_around_31
  refine zst_ (gj_istore_n (pc := 31) (ls' := [(2, zi t0), (0, zr x0), (1, zi x1), (3, zi x3)]) dX9_around_31 (by decide) rfl) ?_
  refine gb_iinc (pc := 32) 3 (fun y1 => [(3, zi y1), (2, zi t0), (0, zr x0), (1, zi x1)]) dX9_around_32 rfl (by decide) (fun _ => rfl) (fun y1 => ?_)
  refine zst_ (gj_goto 4 (pc := 35) dX9_around_35 (by decide)) ?_
  refine zst_ (gj_sub [2, 3, 1, 0] rfl) ?_
  intro h
  cases h
  exact hk
noncomputable def f_X9_around_26 (x0 x1 x3 : Int) (σ : zM) : Option ((Int × Int) ⊕ zO) :=
  f_X9_around_31 x0 x1 x3 1 σ
theorem w_X9_around_26 {g : zG} {lv : Nat} {out : zO} (x0 x1 x3 : Int) (σ : zM) {r : ((Int × Int) ⊕ zO)} (h : f_X9_around_26 x0 x1 x3 σ = some r) (hk : (zKL (fun s : Int × Int => Gj g MX9_around (lv) 4 [(0, zr x0), (1, zi x1), (2, zi s.1), (3, zi s.2)] [] σ out) (fun o : zO => o = out)) r) : Gj g MX9_around (lv) 26 [(0, zr x0), (1, zi x1), (3, zi x3)] [] σ out := by
  revert h
  unfold f_X9_around_26
  refine zst_ (gj_iconst (pc := 26) dX9_around_26 (by decide)) ?_
  refine zst_ (gj_goto 31 (pc := 27) dX9_around_27 (by decide)) ?_
  exact fun h => w_X9_around_31 x0 x1 x3 1 σ h hk
noncomputable def f_X9_around_4_b (x0 x1 x2 x3 : Int) (σ : zM) : Option ((Int × Int) ⊕ zO) :=
  (zgf σ 938 x0).bind fun v1 =>
  if v1 < x3 then
    (f_X9_around_38 x2 σ).map (fun r => (.inr r))
  else
    if x2 ≠ 0 then
      f_X9_around_26 x0 x1 x3 σ
    else
      (zgf σ 939 x0).bind fun v2 =>
      (zga σ 101 v2 x3).bind fun v3 =>
      if v3 ≠ x1 then
        f_X9_around_31 x0 x1 x3 0 σ
      else
        f_X9_around_26 x0 x1 x3 σ
noncomputable def f_X9_around_4 (x0 x1 x2 x3 : Int) (σ : zM) : Option zO :=
  zloop (fun s : Int × Int => f_X9_around_4_b x0 x1 s.1 s.2 σ) (x2, x3)
theorem w_X9_around_4_b {g : zG} {lv : Nat} {out : zO} (x0 x1 x2 x3 : Int) (σ : zM) {r : ((Int × Int) ⊕ zO)} (h : f_X9_around_4_b x0 x1 x2 x3 σ = some r) (hk : (zKL (fun s : Int × Int => Gj g MX9_around (lv) 4 [(0, zr x0), (1, zi x1), (2, zi s.1), (3, zi s.2)] [] σ out) (fun o : zO => o = out)) r) : Gj g MX9_around (lv) 4 [(0, zr x0), (1, zi x1), (2, zi x2), (3, zi x3)] [] σ out := by
  revert h
  unfold f_X9_around_4_b
  refine zst_ (gj_iload_n 3 (pc := 4) dX9_around_4 rfl) ?_
  refine zst_ (gj_aload_n 0 (pc := 5) dX9_around_5 rfl) ?_
  refine gb_get (pc := 6) fl938 dX9_around_6 q1920 (Or.inl rfl) (fun v1 => ?_)
  refine gb_if (gj_icmp_gt 38 (pc := 9) dX9_around_9 (by decide)) ?_ ?_
  · refine zst_ (gj_sub [2] rfl) ?_
    intro h
    obtain ⟨r0, h0, rfl⟩ := zmE h
    exact w_X9_around_38 x2 σ h0 hk
  · refine zst_ (gj_iload_n 2 (pc := 12) dX9_around_12 rfl) ?_
    refine gb_if (gj_if_ne 26 (pc := 13) dX9_around_13 (by decide)) ?_ ?_
    · refine zst_ (gj_sub [0, 1, 3] rfl) ?_
      exact fun h => w_X9_around_26 x0 x1 x3 σ h hk
    · refine zst_ (gj_aload_n 0 (pc := 16) dX9_around_16 rfl) ?_
      refine gb_get (pc := 17) fl939 dX9_around_17 q1921 (Or.inl rfl) (fun v2 => ?_)
      refine zst_ (gj_iload_n 3 (pc := 20) dX9_around_20 rfl) ?_
      refine gb_iald (pc := 21) dX9_around_21 (fun v3 => ?_)
      refine zst_ (gj_iload_n 1 (pc := 22) dX9_around_22 rfl) ?_
      refine gb_if (gj_icmp_ne 30 (pc := 23) dX9_around_23 (by decide)) ?_ ?_
      · refine zst_ (gj_iconst (pc := 30) dX9_around_30 (by decide)) ?_
        refine zst_ (gj_sub [0, 1, 3] rfl) ?_
        exact fun h => w_X9_around_31 x0 x1 x3 0 σ h hk
      · refine zst_ (gj_sub [0, 1, 3] rfl) ?_
        exact fun h => w_X9_around_26 x0 x1 x3 σ h hk
theorem w_X9_around_4 {g : zG} {lv : Nat} {out : zO} (x0 x1 x2 x3 : Int) (σ : zM) {r : zO} (h : f_X9_around_4 x0 x1 x2 x3 σ = some r) (hk : (fun o : zO => o = out) r) : Gj g MX9_around (lv) 4 [(0, zr x0), (1, zi x1), (2, zi x2), (3, zi x3)] [] σ out :=
  gj_loop (P := (fun s : Int × Int => Gj g MX9_around (lv) 4 [(0, zr x0), (1, zi x1), (2, zi s.1), (3, zi s.2)] [] σ out)) (fun s x hb hx => w_X9_around_4_b x0 x1 s.1 s.2 σ hb hx) h hk
noncomputable def f_X9_around (x0 x1 : Int) (σ : zM) : Option zO :=
  f_X9_around_4 x0 x1 0 1 σ
theorem c_X9_around {g : zG} {lv : Nat} {x0 x1 : Int} {σ : zM} {out : zO} (h : f_X9_around x0 x1 σ = some out) : Cj g (lv) MX9_around [zr x0, zi x1] σ out := by
  refine cj_go (ls := [(0, zr x0), (1, zi x1)]) (by decide) (Nat.le_of_ble_eq_true rfl) rfl (zgen h (fun r hk => ?_))
  unfold f_X9_around
  refine zst_ (gj_iconst (pc := 0) dX9_around_0 (by decide)) ?_
  refine zst_ (gj_istore_n (pc := 1) (ls' := [(2, zi 0), (0, zr x0), (1, zi x1)]) dX9_around_1 (by decide) rfl) ?_
  refine zst_ (gj_iconst (pc := 2) dX9_around_2 (by decide)) ?_
  refine zst_ (gj_istore_n (pc := 3) (ls' := [(3, zi 1), (2, zi 0), (0, zr x0), (1, zi x1)]) dX9_around_3 (by decide) rfl) ?_
  refine zst_ (gj_sub [2, 3, 1, 0] rfl) ?_
  exact fun h => w_X9_around_4 x0 x1 0 1 σ h hk
theorem q1918 : (Jvm.Cond.fieldLink "LassoFinderModel" (217 : Nat) "LassoFinderModel" "codes" "I") ∈ lw_all := lw_g (lw_at lw_m8 138 rfl) rfl
theorem q2209 : (Jvm.Cond.code ({ cls := "LassoFinderModel", name := "emit", desc := "(I)V" } : Jvm.MethodName) prog_22_method_10_code (2 : Nat) (Option.none : Option Jvm.ClassFile.FieldType)) ∈ lw_all := lw_g (lw_at lw_m9 189 rfl) rfl
theorem fl936 : zfl 936 0 "LassoFinderModel" "codes" "I" false := ⟨rfl, rfl, rfl⟩
theorem fr936 {g : zG} {v : Int} : zok g (0, v) → zokt g (zft 936) v := fun h => h
abbrev cX9_emit : ByteArray := prog_22_method_10_code
def yX9_emit : MethodName := ⟨RX9, "emit", "(I)V"⟩
theorem dX9_emit_0 : decode cX9_emit 0 = .ok (.aload_n 0, 1) := by decide +kernel
theorem dX9_emit_1 : decode cX9_emit 1 = .ok (.getfield 91, 3) := by decide +kernel
theorem dX9_emit_4 : decode cX9_emit 4 = .ok (.aload_n 0, 1) := by decide +kernel
theorem dX9_emit_5 : decode cX9_emit 5 = .ok (.getfield 217, 3) := by decide +kernel
theorem dX9_emit_8 : decode cX9_emit 8 = .ok (.iload_n 1, 1) := by decide +kernel
theorem dX9_emit_9 : decode cX9_emit 9 = .ok (.iastore, 1) := by decide +kernel
theorem dX9_emit_10 : decode cX9_emit 10 = .ok (.aload_n 0, 1) := by decide +kernel
theorem dX9_emit_11 : decode cX9_emit 11 = .ok (.dup, 1) := by decide +kernel
theorem dX9_emit_12 : decode cX9_emit 12 = .ok (.getfield 217, 3) := by decide +kernel
theorem dX9_emit_15 : decode cX9_emit 15 = .ok (.iconst 1, 1) := by decide +kernel
theorem dX9_emit_16 : decode cX9_emit 16 = .ok (.iadd, 1) := by decide +kernel
theorem dX9_emit_17 : decode cX9_emit 17 = .ok (.putfield 217, 3) := by decide +kernel
theorem dX9_emit_20 : decode cX9_emit 20 = .ok (.return_, 1) := by decide +kernel
abbrev MX9_emit : zT := (yX9_emit, cX9_emit, 2, (Option.none : Option Jvm.ClassFile.FieldType), [])
theorem plX9_emit : zplain MX9_emit 1 ∧ (zcodeW MX9_emit ∈ lw_all ∧ Cond.initialized MX9_emit.1.cls ∈ lw_all) := ⟨⟨by decide +kernel, by decide +kernel⟩, q2209, q127⟩
noncomputable def f_X9_emit (x0 x1 : Int) (σ : zM) : Option zO :=
  (zgf σ 937 x0).bind fun v1 =>
  (zgf σ 936 x0).bind fun v2 =>
  (zpa σ 101 v1 v2 x1).bind fun σ3 =>
  (zgf σ3 936 x0).bind fun v4 =>
  (zpf σ3 936 x0 (zadd v4 1)).bind fun σ5 =>
  some (0, ((3, 0) : zV), σ5)
theorem c_X9_emit {g : zG} {lv : Nat} {x0 x1 : Int} {σ : zM} {out : zO} (h : f_X9_emit x0 x1 σ = some out) : Cj g (lv) MX9_emit [zr x0, zi x1] σ out := by
  refine cj_go (ls := [(0, zr x0), (1, zi x1)]) (by decide) (Nat.le_of_ble_eq_true rfl) rfl (zgen h (fun r hk => ?_))
  unfold f_X9_emit
  refine zst_ (gj_aload_n 0 (pc := 0) dX9_emit_0 rfl) ?_
  refine gb_get (pc := 1) fl937 dX9_emit_1 q1919 (Or.inl rfl) (fun v1 => ?_)
  refine zst_ (gj_aload_n 0 (pc := 4) dX9_emit_4 rfl) ?_
  refine gb_get (pc := 5) fl936 dX9_emit_5 q1918 (Or.inl rfl) (fun v2 => ?_)
  refine zst_ (gj_iload_n 1 (pc := 8) dX9_emit_8 rfl) ?_
  refine gb_iast (pc := 9) dX9_emit_9 (fun σ3 => ?_)
  refine zst_ (gj_aload_n 0 (pc := 10) dX9_emit_10 rfl) ?_
  refine zst_ (gj_dup (pc := 11) dX9_emit_11 rfl) ?_
  refine gb_get (pc := 12) fl936 dX9_emit_12 q1918 (Or.inl rfl) (fun v4 => ?_)
  refine zst_ (gj_iconst (pc := 15) dX9_emit_15 (by decide)) ?_
  refine zst_ (gj_iadd (pc := 16) dX9_emit_16) ?_
  refine gb_put (pc := 17) fl936 fr936 dX9_emit_17 q1918 (Or.inl rfl) (fun σ5 => ?_)
  intro h
  cases h
  have hk : (0, ((3, 0) : zV), σ5) = out := hk
  subst hk
  exact gj_vret (pc := 20) dX9_emit_20 rfl
theorem q2216 : (Jvm.Cond.code ({ cls := "LassoFinderModel", name := "strength", desc := "(I)I" } : Jvm.MethodName) prog_22_method_9_code (1 : Nat) (Option.some Jvm.ClassFile.FieldType.int)) ∈ lw_all := lw_g (lw_at lw_m9 196 rfl) rfl
abbrev cX9_strength : ByteArray := prog_22_method_9_code
def yX9_strength : MethodName := ⟨RX9, "strength", "(I)I"⟩
theorem dX9_strength_0 : decode cX9_strength 0 = .ok (.iload_n 0, 1) := by decide +kernel
theorem dX9_strength_1 : decode cX9_strength 1 = .ok (.bipush 18, 2) := by decide +kernel
theorem dX9_strength_3 : decode cX9_strength 3 = .ok (.if_icmp .ne 7, 3) := by decide +kernel
theorem dX9_strength_6 : decode cX9_strength 6 = .ok (.iconst 3, 1) := by decide +kernel
theorem dX9_strength_7 : decode cX9_strength 7 = .ok (.goto 36, 3) := by decide +kernel
theorem dX9_strength_10 : decode cX9_strength 10 = .ok (.iload_n 0, 1) := by decide +kernel
theorem dX9_strength_11 : decode cX9_strength 11 = .ok (.bipush 16, 2) := by decide +kernel
theorem dX9_strength_13 : decode cX9_strength 13 = .ok (.if_icmp .eq 9, 3) := by decide +kernel
theorem dX9_strength_16 : decode cX9_strength 16 = .ok (.iload_n 0, 1) := by decide +kernel
theorem dX9_strength_17 : decode cX9_strength 17 = .ok (.bipush 17, 2) := by decide +kernel
theorem dX9_strength_19 : decode cX9_strength 19 = .ok (.if_icmp .ne 7, 3) := by decide +kernel
theorem dX9_strength_22 : decode cX9_strength 22 = .ok (.iconst 2, 1) := by decide +kernel
theorem dX9_strength_23 : decode cX9_strength 23 = .ok (.goto 20, 3) := by decide +kernel
theorem dX9_strength_26 : decode cX9_strength 26 = .ok (.iload_n 0, 1) := by decide +kernel
theorem dX9_strength_27 : decode cX9_strength 27 = .ok (.bipush 19, 2) := by decide +kernel
theorem dX9_strength_29 : decode cX9_strength 29 = .ok (.if_icmp .eq 9, 3) := by decide +kernel
theorem dX9_strength_32 : decode cX9_strength 32 = .ok (.iload_n 0, 1) := by decide +kernel
theorem dX9_strength_33 : decode cX9_strength 33 = .ok (.bipush 20, 2) := by decide +kernel
theorem dX9_strength_35 : decode cX9_strength 35 = .ok (.if_icmp .ne 7, 3) := by decide +kernel
theorem dX9_strength_38 : decode cX9_strength 38 = .ok (.iconst 1, 1) := by decide +kernel
theorem dX9_strength_39 : decode cX9_strength 39 = .ok (.goto 4, 3) := by decide +kernel
theorem dX9_strength_42 : decode cX9_strength 42 = .ok (.iconst 0, 1) := by decide +kernel
theorem dX9_strength_43 : decode cX9_strength 43 = .ok (.ireturn, 1) := by decide +kernel
abbrev MX9_strength : zT := (yX9_strength, cX9_strength, 1, (Option.some Jvm.ClassFile.FieldType.int), [])
theorem plX9_strength : zplain MX9_strength 1 ∧ (zcodeW MX9_strength ∈ lw_all ∧ Cond.initialized MX9_strength.1.cls ∈ lw_all) := ⟨⟨by decide +kernel, by decide +kernel⟩, q2216, q127⟩
noncomputable def f_X9_strength_43 (t0 : Int) (σ : zM) : Option zO :=
  some (0, zi t0, σ)
theorem w_X9_strength_43 {g : zG} {lv : Nat} {out : zO} (t0 : Int) (σ : zM) {r : zO} (h : f_X9_strength_43 t0 σ = some r) (hk : (fun o : zO => o = out) r) : Gj g MX9_strength (lv) 43 [] [zi t0] σ out := by
  revert h
  unfold f_X9_strength_43
  intro h
  cases h
  have hk : (0, zi t0, σ) = out := hk
  subst hk
  exact gj_ret (pc := 43) (t := .int) dX9_strength_43 rfl ⟨rfl, rfl⟩ (fun h => h)
noncomputable def f_X9_strength_22 (σ : zM) : Option zO :=
  f_X9_strength_43 2 σ
theorem w_X9_strength_22 {g : zG} {lv : Nat} {out : zO} (σ : zM) {r : zO} (h : f_X9_strength_22  σ = some r) (hk : (fun o : zO => o = out) r) : Gj g MX9_strength (lv) 22 [] [] σ out := by
  revert h
  unfold f_X9_strength_22
  refine zst_ (gj_iconst (pc := 22) dX9_strength_22 (by decide)) ?_
  refine zst_ (gj_goto 43 (pc := 23) dX9_strength_23 (by decide)) ?_
  exact fun h => w_X9_strength_43 2 σ h hk
noncomputable def f_X9_strength_38 (σ : zM) : Option zO :=
  f_X9_strength_43 1 σ
theorem w_X9_strength_38 {g : zG} {lv : Nat} {out : zO} (σ : zM) {r : zO} (h : f_X9_strength_38  σ = some r) (hk : (fun o : zO => o = out) r) : Gj g MX9_strength (lv) 38 [] [] σ out := by
  revert h
  unfold f_X9_strength_38
  refine zst_ (gj_iconst (pc := 38) dX9_strength_38 (by decide)) ?_
  refine zst_ (gj_goto 43 (pc := 39) dX9_strength_39 (by decide)) ?_
  exact fun h => w_X9_strength_43 1 σ h hk
noncomputable def f_X9_strength (x0 : Int) (σ : zM) : Option zO :=
  if x0 ≠ 18 then
    if x0 = 16 then
      f_X9_strength_22 σ
    else
      if x0 ≠ 17 then
        if x0 = 19 then
          f_X9_strength_38 σ
        else
          if x0 ≠ 20 then
            f_X9_strength_43 0 σ
          else
            f_X9_strength_38 σ
      else
        f_X9_strength_22 σ
  else
    f_X9_strength_43 3 σ
theorem c_X9_strength {g : zG} {lv : Nat} {x0 : Int} {σ : zM} {out : zO} (h : f_X9_strength x0 σ = some out) : Cj g (lv) MX9_strength [zi x0] σ out := by
  refine cj_go (ls := [(0, zi x0)]) (by decide) (Nat.le_of_ble_eq_true rfl) rfl (zgen h (fun r hk => ?_))
  unfold f_X9_strength
  refine zst_ (gj_iload_n 0 (pc := 0) dX9_strength_0 rfl) ?_
  refine zst_ (gj_bipush (pc := 1) dX9_strength_1 ⟨rfl, by decide⟩) ?_
  refine gb_if (gj_icmp_ne 10 (pc := 3) dX9_strength_3 (by decide)) ?_ ?_
  · refine zst_ (gj_iload_n 0 (pc := 10) dX9_strength_10 rfl) ?_
    refine zst_ (gj_bipush (pc := 11) dX9_strength_11 ⟨rfl, by decide⟩) ?_
    refine gb_if (gj_icmp_eq 22 (pc := 13) dX9_strength_13 (by decide)) ?_ ?_
    · refine zst_ (gj_sub [] rfl) ?_
      exact fun h => w_X9_strength_22 σ h hk
    · refine zst_ (gj_iload_n 0 (pc := 16) dX9_strength_16 rfl) ?_
      refine zst_ (gj_bipush (pc := 17) dX9_strength_17 ⟨rfl, by decide⟩) ?_
      refine gb_if (gj_icmp_ne 26 (pc := 19) dX9_strength_19 (by decide)) ?_ ?_
      · refine zst_ (gj_iload_n 0 (pc := 26) dX9_strength_26 rfl) ?_
        refine zst_ (gj_bipush (pc := 27) dX9_strength_27 ⟨rfl, by decide⟩) ?_
        refine gb_if (gj_icmp_eq 38 (pc := 29) dX9_strength_29 (by decide)) ?_ ?_
        · refine zst_ (gj_sub [] rfl) ?_
          exact fun h => w_X9_strength_38 σ h hk
        · refine zst_ (gj_iload_n 0 (pc := 32) dX9_strength_32 rfl) ?_
          refine zst_ (gj_bipush (pc := 33) dX9_strength_33 ⟨rfl, by decide⟩) ?_
          refine gb_if (gj_icmp_ne 42 (pc := 35) dX9_strength_35 (by decide)) ?_ ?_
          · refine zst_ (gj_iconst (pc := 42) dX9_strength_42 (by decide)) ?_
            refine zst_ (gj_sub [] rfl) ?_
            exact fun h => w_X9_strength_43 0 σ h hk
          · refine zst_ (gj_sub [] rfl) ?_
            exact fun h => w_X9_strength_38 σ h hk
      · refine zst_ (gj_sub [] rfl) ?_
        exact fun h => w_X9_strength_22 σ h hk
  · refine zst_ (gj_iconst (pc := 6) dX9_strength_6 (by decide)) ?_
    refine zst_ (gj_goto 43 (pc := 7) dX9_strength_7 (by decide)) ?_
    refine zst_ (gj_sub [] rfl) ?_
    exact fun h => w_X9_strength_43 3 σ h hk
theorem q1924 : (Jvm.Cond.fieldLink "LassoFinderModel" (220 : Nat) "LassoFinderModel" "waiting" "I") ∈ lw_all := lw_g (lw_at lw_m8 144 rfl) rfl
theorem q2206 : (Jvm.Cond.methodLink "LassoFinderModel" (227 : Nat) ({ cls := "LassoFinderModel", name := "emit", desc := "(I)V" } : Jvm.MethodName)) ∈ lw_all := lw_g (lw_at lw_m9 186 rfl) rfl
theorem q2208 : (Jvm.Cond.instanceMethod ({ cls := "LassoFinderModel", name := "emit", desc := "(I)V" } : Jvm.MethodName)) ∈ lw_all := lw_g (lw_at lw_m9 188 rfl) rfl
theorem q2213 : (Jvm.Cond.code ({ cls := "LassoFinderModel", name := "settle", desc := "(I)V" } : Jvm.MethodName) prog_22_method_11_code (2 : Nat) (Option.none : Option Jvm.ClassFile.FieldType)) ∈ lw_all := lw_g (lw_at lw_m9 193 rfl) rfl
theorem q2214 : (Jvm.Cond.methodLink "LassoFinderModel" (223 : Nat) ({ cls := "LassoFinderModel", name := "strength", desc := "(I)I" } : Jvm.MethodName)) ∈ lw_all := lw_g (lw_at lw_m9 194 rfl) rfl
theorem q2215 : (Jvm.Cond.static ({ cls := "LassoFinderModel", name := "strength", desc := "(I)I" } : Jvm.MethodName)) ∈ lw_all := lw_g (lw_at lw_m9 195 rfl) rfl
theorem fl942 : zfl 942 0 "LassoFinderModel" "waiting" "I" false := ⟨rfl, rfl, rfl⟩
theorem fr942 {g : zG} {v : Int} : zok g (0, v) → zokt g (zft 942) v := fun h => h
abbrev cX9_settle : ByteArray := prog_22_method_11_code
def yX9_settle : MethodName := ⟨RX9, "settle", "(I)V"⟩
theorem dX9_settle_0 : decode cX9_settle 0 = .ok (.aload_n 0, 1) := by decide +kernel
theorem dX9_settle_1 : decode cX9_settle 1 = .ok (.getfield 220, 3) := by decide +kernel
theorem dX9_settle_4 : decode cX9_settle 4 = .ok (.ifCond .le 47, 3) := by decide +kernel
theorem dX9_settle_7 : decode cX9_settle 7 = .ok (.aload_n 0, 1) := by decide +kernel
theorem dX9_settle_8 : decode cX9_settle 8 = .ok (.getfield 103, 3) := by decide +kernel
theorem dX9_settle_11 : decode cX9_settle 11 = .ok (.aload_n 0, 1) := by decide +kernel
theorem dX9_settle_12 : decode cX9_settle 12 = .ok (.getfield 220, 3) := by decide +kernel
theorem dX9_settle_15 : decode cX9_settle 15 = .ok (.iconst 1, 1) := by decide +kernel
theorem dX9_settle_16 : decode cX9_settle 16 = .ok (.isub, 1) := by decide +kernel
theorem dX9_settle_17 : decode cX9_settle 17 = .ok (.iaload, 1) := by decide +kernel
theorem dX9_settle_18 : decode cX9_settle 18 = .ok (.invokestatic 223, 3) := by decide +kernel
theorem dX9_settle_21 : decode cX9_settle 21 = .ok (.iload_n 1, 1) := by decide +kernel
theorem dX9_settle_22 : decode cX9_settle 22 = .ok (.if_icmp .lt 29, 3) := by decide +kernel
theorem dX9_settle_25 : decode cX9_settle 25 = .ok (.aload_n 0, 1) := by decide +kernel
theorem dX9_settle_26 : decode cX9_settle 26 = .ok (.dup, 1) := by decide +kernel
theorem dX9_settle_27 : decode cX9_settle 27 = .ok (.getfield 220, 3) := by decide +kernel
theorem dX9_settle_30 : decode cX9_settle 30 = .ok (.iconst 1, 1) := by decide +kernel
theorem dX9_settle_31 : decode cX9_settle 31 = .ok (.isub, 1) := by decide +kernel
theorem dX9_settle_32 : decode cX9_settle 32 = .ok (.putfield 220, 3) := by decide +kernel
theorem dX9_settle_35 : decode cX9_settle 35 = .ok (.aload_n 0, 1) := by decide +kernel
theorem dX9_settle_36 : decode cX9_settle 36 = .ok (.aload_n 0, 1) := by decide +kernel
theorem dX9_settle_37 : decode cX9_settle 37 = .ok (.getfield 103, 3) := by decide +kernel
theorem dX9_settle_40 : decode cX9_settle 40 = .ok (.aload_n 0, 1) := by decide +kernel
theorem dX9_settle_41 : decode cX9_settle 41 = .ok (.getfield 220, 3) := by decide +kernel
theorem dX9_settle_44 : decode cX9_settle 44 = .ok (.iaload, 1) := by decide +kernel
theorem dX9_settle_45 : decode cX9_settle 45 = .ok (.invokevirtual 227, 3) := by decide +kernel
theorem dX9_settle_48 : decode cX9_settle 48 = .ok (.goto (-48), 3) := by decide +kernel
theorem dX9_settle_51 : decode cX9_settle 51 = .ok (.return_, 1) := by decide +kernel
abbrev MX9_settle : zT := (yX9_settle, cX9_settle, 2, (Option.none : Option Jvm.ClassFile.FieldType), [])
theorem plX9_settle : zplain MX9_settle 1 ∧ (zcodeW MX9_settle ∈ lw_all ∧ Cond.initialized MX9_settle.1.cls ∈ lw_all) := ⟨⟨by decide +kernel, by decide +kernel⟩, q2213, q127⟩
noncomputable def f_X9_settle_51 (σ : zM) : Option zO :=
  some (0, ((3, 0) : zV), σ)
theorem w_X9_settle_51 {g : zG} {lv : Nat} {out : zO} (σ : zM) {r : zO} (h : f_X9_settle_51  σ = some r) (hk : (fun o : zO => o = out) r) : Gj g MX9_settle (lv + 1) 51 [] [] σ out := by
  revert h
  unfold f_X9_settle_51
  intro h
  cases h
  have hk : (0, ((3, 0) : zV), σ) = out := hk
  subst hk
  exact gj_vret (pc := 51) dX9_settle_51 rfl
noncomputable def f_X9_settle_0_b (x0 x1 : Int) (σ : zM) : Option ((zM) ⊕ zO) :=
  (zgf σ 942 x0).bind fun v1 =>
  if v1 ≤ 0 then
    (f_X9_settle_51 σ).map (fun r => (.inr r))
  else
    (zgf σ 943 x0).bind fun v2 =>
    (zgf σ 942 x0).bind fun v3 =>
    (zga σ 101 v2 (zsub v3 1)).bind fun v4 =>
    zci (f_X9_strength v4 σ) fun v5 σ6 =>
    if v5 < x1 then
      (f_X9_settle_51 σ6).map (fun r => (.inr r))
    else
      (zgf σ6 942 x0).bind fun v7 =>
      (zpf σ6 942 x0 (zsub v7 1)).bind fun σ8 =>
      (zgf σ8 943 x0).bind fun v9 =>
      (zgf σ8 942 x0).bind fun v10 =>
      (zga σ8 101 v9 v10).bind fun v11 =>
      zgd (zis σ8 10 x0) <|
      zcv (f_X9_emit x0 v11 σ8) fun σ12 =>
      some (.inl σ12)
noncomputable def f_X9_settle_0 (x0 x1 : Int) (σ : zM) : Option zO :=
  zloop (fun s : zM => f_X9_settle_0_b x0 x1 s) σ
theorem w_X9_settle_0_b {g : zG} {lv : Nat} {out : zO} (x0 x1 : Int) (σ : zM) {r : ((zM) ⊕ zO)} (h : f_X9_settle_0_b x0 x1 σ = some r) (hk : (zKL (fun s : zM => Gj g MX9_settle (lv + 1) 0 [(0, zr x0), (1, zi x1)] [] s out) (fun o : zO => o = out)) r) : Gj g MX9_settle (lv + 1) 0 [(0, zr x0), (1, zi x1)] [] σ out := by
  revert h
  unfold f_X9_settle_0_b
  refine zst_ (gj_aload_n 0 (pc := 0) dX9_settle_0 rfl) ?_
  refine gb_get (pc := 1) fl942 dX9_settle_1 q1924 (Or.inl rfl) (fun v1 => ?_)
  refine gb_if (gj_if_le 51 (pc := 4) dX9_settle_4 (by decide)) ?_ ?_
  · refine zst_ (gj_sub [] rfl) ?_
    intro h
    obtain ⟨r0, h0, rfl⟩ := zmE h
    exact w_X9_settle_51 σ h0 hk
  · refine zst_ (gj_aload_n 0 (pc := 7) dX9_settle_7 rfl) ?_
    refine gb_get (pc := 8) fl943 dX9_settle_8 q1925 (Or.inl rfl) (fun v2 => ?_)
    refine zst_ (gj_aload_n 0 (pc := 11) dX9_settle_11 rfl) ?_
    refine gb_get (pc := 12) fl942 dX9_settle_12 q1924 (Or.inl rfl) (fun v3 => ?_)
    refine zst_ (gj_iconst (pc := 15) dX9_settle_15 (by decide)) ?_
    refine zst_ (gj_isub (pc := 16) dX9_settle_16) ?_
    refine gb_iald (pc := 17) dX9_settle_17 (fun v4 => ?_)
    refine gb_callI (pc := 18) (as := [zi v4]) (rest := []) (zCl.of (zLk_S (M := MX9_settle) plX9_strength.1 rfl dX9_settle_18 q2214 q2215 q127 q2216) plX9_strength (Nat.le_of_ble_eq_true rfl) (fun h => c_X9_strength h)) (fun v5 σ6 => ?_)
    refine zst_ (gj_iload_n 1 (pc := 21) dX9_settle_21 rfl) ?_
    refine gb_if (gj_icmp_lt 51 (pc := 22) dX9_settle_22 (by decide)) ?_ ?_
    · refine zst_ (gj_sub [] rfl) ?_
      intro h
      obtain ⟨r0, h0, rfl⟩ := zmE h
      exact w_X9_settle_51 σ6 h0 hk
    · refine zst_ (gj_aload_n 0 (pc := 25) dX9_settle_25 rfl) ?_
      refine zst_ (gj_dup (pc := 26) dX9_settle_26 rfl) ?_
      refine gb_get (pc := 27) fl942 dX9_settle_27 q1924 (Or.inl rfl) (fun v7 => ?_)
      refine zst_ (gj_iconst (pc := 30) dX9_settle_30 (by decide)) ?_
      refine zst_ (gj_isub (pc := 31) dX9_settle_31) ?_
      refine gb_put (pc := 32) fl942 fr942 dX9_settle_32 q1924 (Or.inl rfl) (fun σ8 => ?_)
      refine zst_ (gj_aload_n 0 (pc := 35) dX9_settle_35 rfl) ?_
      refine zst_ (gj_aload_n 0 (pc := 36) dX9_settle_36 rfl) ?_
      refine gb_get (pc := 37) fl943 dX9_settle_37 q1925 (Or.inl rfl) (fun v9 => ?_)
      refine zst_ (gj_aload_n 0 (pc := 40) dX9_settle_40 rfl) ?_
      refine gb_get (pc := 41) fl942 dX9_settle_41 q1924 (Or.inl rfl) (fun v10 => ?_)
      refine gb_iald (pc := 44) dX9_settle_44 (fun v11 => ?_)
      refine gb_gd (fun hb => ?_)
      refine gb_callV (pc := 45) (as := [zr x0, zi v11]) (rest := []) (zCl.of (zLk_V (M := MX9_settle) (ci := 9) (r := (RX9, TX9, 84)) plX9_emit.1 rfl rfl (zisE hb).1 (zisE hb).2 dX9_settle_45 q2206 q2208 qs59 q2209) plX9_emit (Nat.le_of_ble_eq_true rfl) (fun h => c_X9_emit h)) (fun σ12 => ?_)
      refine zst_ (gj_goto 0 (pc := 48) dX9_settle_48 (by decide)) ?_
      intro h
      cases h
      exact hk
theorem w_X9_settle_0 {g : zG} {lv : Nat} {out : zO} (x0 x1 : Int) (σ : zM) {r : zO} (h : f_X9_settle_0 x0 x1 σ = some r) (hk : (fun o : zO => o = out) r) : Gj g MX9_settle (lv + 1) 0 [(0, zr x0), (1, zi x1)] [] σ out :=
  gj_loop (P := (fun s : zM => Gj g MX9_settle (lv + 1) 0 [(0, zr x0), (1, zi x1)] [] s out)) (fun s x hb hx => w_X9_settle_0_b x0 x1 s hb hx) h hk
noncomputable def f_X9_settle (x0 x1 : Int) (σ : zM) : Option zO :=
  f_X9_settle_0 x0 x1 σ
theorem c_X9_settle {g : zG} {lv : Nat} {x0 x1 : Int} {σ : zM} {out : zO} (h : f_X9_settle x0 x1 σ = some out) : Cj g (lv + 1) MX9_settle [zr x0, zi x1] σ out := by
  refine cj_go (ls := [(0, zr x0), (1, zi x1)]) (by decide) (Nat.le_of_ble_eq_true rfl) rfl (zgen h (fun r hk => ?_))
  unfold f_X9_settle
  exact fun h => w_X9_settle_0 x0 x1 σ h hk
theorem q2205 : (Jvm.Cond.code ({ cls := "LassoFinderModel", name := "expression", desc := "(I)Z" } : Jvm.MethodName) prog_22_method_12_code (9 : Nat) (Option.some Jvm.ClassFile.FieldType.boolean)) ∈ lw_all := lw_g (lw_at lw_m9 185 rfl) rfl
theorem q2210 : (Jvm.Cond.methodLink "LassoFinderModel" (235 : Nat) ({ cls := "LassoFinderModel", name := "settle", desc := "(I)V" } : Jvm.MethodName)) ∈ lw_all := lw_g (lw_at lw_m9 190 rfl) rfl
theorem q2212 : (Jvm.Cond.instanceMethod ({ cls := "LassoFinderModel", name := "settle", desc := "(I)V" } : Jvm.MethodName)) ∈ lw_all := lw_g (lw_at lw_m9 192 rfl) rfl
abbrev cX9_expression : ByteArray := prog_22_method_12_code
def yX9_expression : MethodName := ⟨RX9, "expression", "(I)Z"⟩
theorem dX9_expression_0 : decode cX9_expression 0 = .ok (.iconst 0, 1) := by decide +kernel
theorem dX9_expression_1 : decode cX9_expression 1 = .ok (.istore_n 2, 1) := by decide +kernel
theorem dX9_expression_2 : decode cX9_expression 2 = .ok (.iload_n 1, 1) := by decide +kernel
theorem dX9_expression_3 : decode cX9_expression 3 = .ok (.istore_n 3, 1) := by decide +kernel
theorem dX9_expression_4 : decode cX9_expression 4 = .ok (.iconst 1, 1) := by decide +kernel
theorem dX9_expression_5 : decode cX9_expression 5 = .ok (.istore 4, 2) := by decide +kernel
theorem dX9_expression_7 : decode cX9_expression 7 = .ok (.aload_n 0, 1) := by decide +kernel
theorem dX9_expression_8 : decode cX9_expression 8 = .ok (.iconst 0, 1) := by decide +kernel
theorem dX9_expression_9 : decode cX9_expression 9 = .ok (.putfield 220, 3) := by decide +kernel
theorem dX9_expression_12 : decode cX9_expression 12 = .ok (.iconst 0, 1) := by decide +kernel
theorem dX9_expression_13 : decode cX9_expression 13 = .ok (.istore 5, 2) := by decide +kernel
theorem dX9_expression_15 : decode cX9_expression 15 = .ok (.iload 5, 2) := by decide +kernel
theorem dX9_expression_17 : decode cX9_expression 17 = .ok (.aload_n 0, 1) := by decide +kernel
theorem dX9_expression_18 : decode cX9_expression 18 = .ok (.getfield 200, 3) := by decide +kernel
theorem dX9_expression_21 : decode cX9_expression 21 = .ok (.if_icmp .gt 423, 3) := by decide +kernel
theorem dX9_expression_24 : decode cX9_expression 24 = .ok (.aload_n 0, 1) := by decide +kernel
theorem dX9_expression_25 : decode cX9_expression 25 = .ok (.invokevirtual 209, 3) := by decide +kernel
theorem dX9_expression_28 : decode cX9_expression 28 = .ok (.istore 6, 2) := by decide +kernel
theorem dX9_expression_30 : decode cX9_expression 30 = .ok (.aload_n 0, 1) := by decide +kernel
theorem dX9_expression_31 : decode cX9_expression 31 = .ok (.bipush 97, 2) := by decide +kernel
theorem dX9_expression_33 : decode cX9_expression 33 = .ok (.bipush 8, 2) := by decide +kernel
theorem dX9_expression_35 : decode cX9_expression 35 = .ok (.invokevirtual 231, 3) := by decide +kernel
theorem dX9_expression_38 : decode cX9_expression 38 = .ok (.istore 7, 2) := by decide +kernel
theorem dX9_expression_40 : decode cX9_expression 40 = .ok (.iload 4, 2) := by decide +kernel
theorem dX9_expression_42 : decode cX9_expression 42 = .ok (.ifCond .eq 57, 3) := by decide +kernel
theorem dX9_expression_45 : decode cX9_expression 45 = .ok (.iload 6, 2) := by decide +kernel
theorem dX9_expression_47 : decode cX9_expression 47 = .ok (.bipush 40, 2) := by decide +kernel
theorem dX9_expression_49 : decode cX9_expression 49 = .ok (.if_icmp .ne 50, 3) := by decide +kernel
theorem dX9_expression_52 : decode cX9_expression 52 = .ok (.iload_n 3, 1) := by decide +kernel
theorem dX9_expression_53 : decode cX9_expression 53 = .ok (.iconst 4, 1) := by decide +kernel
theorem dX9_expression_54 : decode cX9_expression 54 = .ok (.if_icmp .ne 8, 3) := by decide +kernel
theorem dX9_expression_57 : decode cX9_expression 57 = .ok (.aload_n 0, 1) := by decide +kernel
theorem dX9_expression_58 : decode cX9_expression 58 = .ok (.invokevirtual 213, 3) := by decide +kernel
theorem dX9_expression_61 : decode cX9_expression 61 = .ok (.ireturn, 1) := by decide +kernel
theorem dX9_expression_62 : decode cX9_expression 62 = .ok (.iinc 3 1, 3) := by decide +kernel
theorem dX9_expression_65 : decode cX9_expression 65 = .ok (.aload_n 0, 1) := by decide +kernel
theorem dX9_expression_66 : decode cX9_expression 66 = .ok (.getfield 103, 3) := by decide +kernel
theorem dX9_expression_69 : decode cX9_expression 69 = .ok (.aload_n 0, 1) := by decide +kernel
theorem dX9_expression_70 : decode cX9_expression 70 = .ok (.getfield 220, 3) := by decide +kernel
theorem dX9_expression_73 : decode cX9_expression 73 = .ok (.bipush 21, 2) := by decide +kernel
theorem dX9_expression_75 : decode cX9_expression 75 = .ok (.iastore, 1) := by decide +kernel
theorem dX9_expression_76 : decode cX9_expression 76 = .ok (.aload_n 0, 1) := by decide +kernel
theorem dX9_expression_77 : decode cX9_expression 77 = .ok (.dup, 1) := by decide +kernel
theorem dX9_expression_78 : decode cX9_expression 78 = .ok (.getfield 220, 3) := by decide +kernel
theorem dX9_expression_81 : decode cX9_expression 81 = .ok (.iconst 1, 1) := by decide +kernel
theorem dX9_expression_82 : decode cX9_expression 82 = .ok (.iadd, 1) := by decide +kernel
theorem dX9_expression_83 : decode cX9_expression 83 = .ok (.putfield 220, 3) := by decide +kernel
theorem dX9_expression_86 : decode cX9_expression 86 = .ok (.aload_n 0, 1) := by decide +kernel
theorem dX9_expression_87 : decode cX9_expression 87 = .ok (.dup, 1) := by decide +kernel
theorem dX9_expression_88 : decode cX9_expression 88 = .ok (.getfield 203, 3) := by decide +kernel
theorem dX9_expression_91 : decode cX9_expression 91 = .ok (.iconst 1, 1) := by decide +kernel
theorem dX9_expression_92 : decode cX9_expression 92 = .ok (.iadd, 1) := by decide +kernel
theorem dX9_expression_93 : decode cX9_expression 93 = .ok (.putfield 203, 3) := by decide +kernel
theorem dX9_expression_96 : decode cX9_expression 96 = .ok (.goto 342, 3) := by decide +kernel
theorem dX9_expression_99 : decode cX9_expression 99 = .ok (.iload 4, 2) := by decide +kernel
theorem dX9_expression_101 : decode cX9_expression 101 = .ok (.ifCond .eq 106, 3) := by decide +kernel
theorem dX9_expression_104 : decode cX9_expression 104 = .ok (.iload 7, 2) := by decide +kernel
theorem dX9_expression_106 : decode cX9_expression 106 = .ok (.ifCond .lt 27, 3) := by decide +kernel
theorem dX9_expression_109 : decode cX9_expression 109 = .ok (.aload_n 0, 1) := by decide +kernel
theorem dX9_expression_110 : decode cX9_expression 110 = .ok (.getfield 17, 3) := by decide +kernel
theorem dX9_expression_113 : decode cX9_expression 113 = .ok (.iload 7, 2) := by decide +kernel
theorem dX9_expression_115 : decode cX9_expression 115 = .ok (.iaload, 1) := by decide +kernel
theorem dX9_expression_116 : decode cX9_expression 116 = .ok (.ifCond .ge 13, 3) := by decide +kernel
theorem dX9_expression_119 : decode cX9_expression 119 = .ok (.aload_n 0, 1) := by decide +kernel
theorem dX9_expression_120 : decode cX9_expression 120 = .ok (.getfield 20, 3) := by decide +kernel
theorem dX9_expression_123 : decode cX9_expression 123 = .ok (.iload 7, 2) := by decide +kernel
theorem dX9_expression_125 : decode cX9_expression 125 = .ok (.iaload, 1) := by decide +kernel
theorem dX9_expression_126 : decode cX9_expression 126 = .ok (.ifCond .lt 7, 3) := by decide +kernel
theorem dX9_expression_129 : decode cX9_expression 129 = .ok (.iconst 1, 1) := by decide +kernel
theorem dX9_expression_130 : decode cX9_expression 130 = .ok (.goto 4, 3) := by decide +kernel
theorem dX9_expression_133 : decode cX9_expression 133 = .ok (.iconst 0, 1) := by decide +kernel
theorem dX9_expression_134 : decode cX9_expression 134 = .ok (.istore 8, 2) := by decide +kernel
theorem dX9_expression_136 : decode cX9_expression 136 = .ok (.iload 8, 2) := by decide +kernel
theorem dX9_expression_138 : decode cX9_expression 138 = .ok (.ifCond .ne 14, 3) := by decide +kernel
theorem dX9_expression_141 : decode cX9_expression 141 = .ok (.aload_n 0, 1) := by decide +kernel
theorem dX9_expression_142 : decode cX9_expression 142 = .ok (.bipush 48, 2) := by decide +kernel
theorem dX9_expression_144 : decode cX9_expression 144 = .ok (.bipush 8, 2) := by decide +kernel
theorem dX9_expression_146 : decode cX9_expression 146 = .ok (.invokevirtual 231, 3) := by decide +kernel
theorem dX9_expression_149 : decode cX9_expression 149 = .ok (.ifCond .lt 9, 3) := by decide +kernel
theorem dX9_expression_152 : decode cX9_expression 152 = .ok (.iload_n 2, 1) := by decide +kernel
theorem dX9_expression_153 : decode cX9_expression 153 = .ok (.bipush 12, 2) := by decide +kernel
theorem dX9_expression_155 : decode cX9_expression 155 = .ok (.if_icmp .ne 8, 3) := by decide +kernel
theorem dX9_expression_158 : decode cX9_expression 158 = .ok (.aload_n 0, 1) := by decide +kernel
theorem dX9_expression_159 : decode cX9_expression 159 = .ok (.invokevirtual 213, 3) := by decide +kernel
theorem dX9_expression_162 : decode cX9_expression 162 = .ok (.ireturn, 1) := by decide +kernel
theorem dX9_expression_163 : decode cX9_expression 163 = .ok (.iinc 2 1, 3) := by decide +kernel
theorem dX9_expression_166 : decode cX9_expression 166 = .ok (.aload_n 0, 1) := by decide +kernel
theorem dX9_expression_167 : decode cX9_expression 167 = .ok (.iload 8, 2) := by decide +kernel
theorem dX9_expression_169 : decode cX9_expression 169 = .ok (.ifCond .eq 11, 3) := by decide +kernel
theorem dX9_expression_172 : decode cX9_expression 172 = .ok (.bipush 8, 2) := by decide +kernel
theorem dX9_expression_174 : decode cX9_expression 174 = .ok (.iload 7, 2) := by decide +kernel
theorem dX9_expression_176 : decode cX9_expression 176 = .ok (.iadd, 1) := by decide +kernel
theorem dX9_expression_177 : decode cX9_expression 177 = .ok (.goto 11, 3) := by decide +kernel
theorem dX9_expression_180 : decode cX9_expression 180 = .ok (.aload_n 0, 1) := by decide +kernel
theorem dX9_expression_181 : decode cX9_expression 181 = .ok (.bipush 48, 2) := by decide +kernel
theorem dX9_expression_183 : decode cX9_expression 183 = .ok (.bipush 8, 2) := by decide +kernel
theorem dX9_expression_185 : decode cX9_expression 185 = .ok (.invokevirtual 231, 3) := by decide +kernel
theorem dX9_expression_188 : decode cX9_expression 188 = .ok (.invokevirtual 227, 3) := by decide +kernel
theorem dX9_expression_191 : decode cX9_expression 191 = .ok (.aload_n 0, 1) := by decide +kernel
theorem dX9_expression_192 : decode cX9_expression 192 = .ok (.dup, 1) := by decide +kernel
theorem dX9_expression_193 : decode cX9_expression 193 = .ok (.getfield 203, 3) := by decide +kernel
theorem dX9_expression_196 : decode cX9_expression 196 = .ok (.iconst 1, 1) := by decide +kernel
theorem dX9_expression_197 : decode cX9_expression 197 = .ok (.iadd, 1) := by decide +kernel
theorem dX9_expression_198 : decode cX9_expression 198 = .ok (.putfield 203, 3) := by decide +kernel
theorem dX9_expression_201 : decode cX9_expression 201 = .ok (.iconst 0, 1) := by decide +kernel
theorem dX9_expression_202 : decode cX9_expression 202 = .ok (.istore 4, 2) := by decide +kernel
theorem dX9_expression_204 : decode cX9_expression 204 = .ok (.goto 234, 3) := by decide +kernel
theorem dX9_expression_207 : decode cX9_expression 207 = .ok (.iload 6, 2) := by decide +kernel
theorem dX9_expression_209 : decode cX9_expression 209 = .ok (.bipush 41, 2) := by decide +kernel
theorem dX9_expression_211 : decode cX9_expression 211 = .ok (.if_icmp .ne 39, 3) := by decide +kernel
theorem dX9_expression_214 : decode cX9_expression 214 = .ok (.iload_n 3, 1) := by decide +kernel
theorem dX9_expression_215 : decode cX9_expression 215 = .ok (.iload_n 1, 1) := by decide +kernel
theorem dX9_expression_216 : decode cX9_expression 216 = .ok (.if_icmp .le 34, 3) := by decide +kernel
theorem dX9_expression_219 : decode cX9_expression 219 = .ok (.aload_n 0, 1) := by decide +kernel
theorem dX9_expression_220 : decode cX9_expression 220 = .ok (.iconst 1, 1) := by decide +kernel
theorem dX9_expression_221 : decode cX9_expression 221 = .ok (.invokevirtual 235, 3) := by decide +kernel
theorem dX9_expression_224 : decode cX9_expression 224 = .ok (.aload_n 0, 1) := by decide +kernel
theorem dX9_expression_225 : decode cX9_expression 225 = .ok (.dup, 1) := by decide +kernel
theorem dX9_expression_226 : decode cX9_expression 226 = .ok (.getfield 220, 3) := by decide +kernel
theorem dX9_expression_229 : decode cX9_expression 229 = .ok (.iconst 1, 1) := by decide +kernel
theorem dX9_expression_230 : decode cX9_expression 230 = .ok (.isub, 1) := by decide +kernel
theorem dX9_expression_231 : decode cX9_expression 231 = .ok (.putfield 220, 3) := by decide +kernel
theorem dX9_expression_234 : decode cX9_expression 234 = .ok (.iinc 3 (-1), 3) := by decide +kernel
theorem dX9_expression_237 : decode cX9_expression 237 = .ok (.aload_n 0, 1) := by decide +kernel
theorem dX9_expression_238 : decode cX9_expression 238 = .ok (.dup, 1) := by decide +kernel
theorem dX9_expression_239 : decode cX9_expression 239 = .ok (.getfield 203, 3) := by decide +kernel
theorem dX9_expression_242 : decode cX9_expression 242 = .ok (.iconst 1, 1) := by decide +kernel
theorem dX9_expression_243 : decode cX9_expression 243 = .ok (.iadd, 1) := by decide +kernel
theorem dX9_expression_244 : decode cX9_expression 244 = .ok (.putfield 203, 3) := by decide +kernel
theorem dX9_expression_247 : decode cX9_expression 247 = .ok (.goto 191, 3) := by decide +kernel
theorem dX9_expression_250 : decode cX9_expression 250 = .ok (.iload 6, 2) := by decide +kernel
theorem dX9_expression_252 : decode cX9_expression 252 = .ok (.bipush 43, 2) := by decide +kernel
theorem dX9_expression_254 : decode cX9_expression 254 = .ok (.if_icmp .ne 8, 3) := by decide +kernel
theorem dX9_expression_257 : decode cX9_expression 257 = .ok (.bipush 16, 2) := by decide +kernel
theorem dX9_expression_259 : decode cX9_expression 259 = .ok (.goto 52, 3) := by decide +kernel
theorem dX9_expression_262 : decode cX9_expression 262 = .ok (.iload 6, 2) := by decide +kernel
theorem dX9_expression_264 : decode cX9_expression 264 = .ok (.bipush 45, 2) := by decide +kernel
theorem dX9_expression_266 : decode cX9_expression 266 = .ok (.if_icmp .ne 8, 3) := by decide +kernel
theorem dX9_expression_269 : decode cX9_expression 269 = .ok (.bipush 17, 2) := by decide +kernel
theorem dX9_expression_271 : decode cX9_expression 271 = .ok (.goto 40, 3) := by decide +kernel
theorem dX9_expression_274 : decode cX9_expression 274 = .ok (.iload 6, 2) := by decide +kernel
theorem dX9_expression_276 : decode cX9_expression 276 = .ok (.bipush 42, 2) := by decide +kernel
theorem dX9_expression_278 : decode cX9_expression 278 = .ok (.if_icmp .ne 8, 3) := by decide +kernel
theorem dX9_expression_281 : decode cX9_expression 281 = .ok (.bipush 18, 2) := by decide +kernel
theorem dX9_expression_283 : decode cX9_expression 283 = .ok (.goto 28, 3) := by decide +kernel
theorem dX9_expression_286 : decode cX9_expression 286 = .ok (.iload 6, 2) := by decide +kernel
theorem dX9_expression_288 : decode cX9_expression 288 = .ok (.bipush 61, 2) := by decide +kernel
theorem dX9_expression_290 : decode cX9_expression 290 = .ok (.if_icmp .ne 8, 3) := by decide +kernel
theorem dX9_expression_293 : decode cX9_expression 293 = .ok (.bipush 19, 2) := by decide +kernel
theorem dX9_expression_295 : decode cX9_expression 295 = .ok (.goto 16, 3) := by decide +kernel
theorem dX9_expression_298 : decode cX9_expression 298 = .ok (.iload 6, 2) := by decide +kernel
theorem dX9_expression_300 : decode cX9_expression 300 = .ok (.bipush 60, 2) := by decide +kernel
theorem dX9_expression_302 : decode cX9_expression 302 = .ok (.if_icmp .ne 8, 3) := by decide +kernel
theorem dX9_expression_305 : decode cX9_expression 305 = .ok (.bipush 20, 2) := by decide +kernel
theorem dX9_expression_307 : decode cX9_expression 307 = .ok (.goto 4, 3) := by decide +kernel
theorem dX9_expression_310 : decode cX9_expression 310 = .ok (.iconst (-1), 1) := by decide +kernel
theorem dX9_expression_311 : decode cX9_expression 311 = .ok (.istore 8, 2) := by decide +kernel
theorem dX9_expression_313 : decode cX9_expression 313 = .ok (.iload 8, 2) := by decide +kernel
theorem dX9_expression_315 : decode cX9_expression 315 = .ok (.ifCond .ge 28, 3) := by decide +kernel
theorem dX9_expression_318 : decode cX9_expression 318 = .ok (.aload_n 0, 1) := by decide +kernel
theorem dX9_expression_319 : decode cX9_expression 319 = .ok (.iconst 1, 1) := by decide +kernel
theorem dX9_expression_320 : decode cX9_expression 320 = .ok (.invokevirtual 235, 3) := by decide +kernel
theorem dX9_expression_323 : decode cX9_expression 323 = .ok (.aload_n 0, 1) := by decide +kernel
theorem dX9_expression_324 : decode cX9_expression 324 = .ok (.getfield 220, 3) := by decide +kernel
theorem dX9_expression_327 : decode cX9_expression 327 = .ok (.ifCond .eq 10, 3) := by decide +kernel
theorem dX9_expression_330 : decode cX9_expression 330 = .ok (.aload_n 0, 1) := by decide +kernel
theorem dX9_expression_331 : decode cX9_expression 331 = .ok (.invokevirtual 213, 3) := by decide +kernel
theorem dX9_expression_334 : decode cX9_expression 334 = .ok (.ifCond .eq 7, 3) := by decide +kernel
theorem dX9_expression_337 : decode cX9_expression 337 = .ok (.iconst 1, 1) := by decide +kernel
theorem dX9_expression_338 : decode cX9_expression 338 = .ok (.goto 4, 3) := by decide +kernel
theorem dX9_expression_341 : decode cX9_expression 341 = .ok (.iconst 0, 1) := by decide +kernel
theorem dX9_expression_342 : decode cX9_expression 342 = .ok (.ireturn, 1) := by decide +kernel
theorem dX9_expression_343 : decode cX9_expression 343 = .ok (.aload_n 0, 1) := by decide +kernel
theorem dX9_expression_344 : decode cX9_expression 344 = .ok (.iload 8, 2) := by decide +kernel
theorem dX9_expression_346 : decode cX9_expression 346 = .ok (.invokestatic 223, 3) := by decide +kernel
theorem dX9_expression_349 : decode cX9_expression 349 = .ok (.iconst 2, 1) := by decide +kernel
theorem dX9_expression_350 : decode cX9_expression 350 = .ok (.if_icmp .ge 7, 3) := by decide +kernel
theorem dX9_expression_353 : decode cX9_expression 353 = .ok (.iconst 2, 1) := by decide +kernel
theorem dX9_expression_354 : decode cX9_expression 354 = .ok (.goto 8, 3) := by decide +kernel
theorem dX9_expression_357 : decode cX9_expression 357 = .ok (.iload 8, 2) := by decide +kernel
theorem dX9_expression_359 : decode cX9_expression 359 = .ok (.invokestatic 223, 3) := by decide +kernel
theorem dX9_expression_362 : decode cX9_expression 362 = .ok (.invokevirtual 235, 3) := by decide +kernel
theorem dX9_expression_365 : decode cX9_expression 365 = .ok (.iload 8, 2) := by decide +kernel
theorem dX9_expression_367 : decode cX9_expression 367 = .ok (.invokestatic 223, 3) := by decide +kernel
theorem dX9_expression_370 : decode cX9_expression 370 = .ok (.iconst 1, 1) := by decide +kernel
theorem dX9_expression_371 : decode cX9_expression 371 = .ok (.if_icmp .ne 33, 3) := by decide +kernel
theorem dX9_expression_374 : decode cX9_expression 374 = .ok (.aload_n 0, 1) := by decide +kernel
theorem dX9_expression_375 : decode cX9_expression 375 = .ok (.getfield 220, 3) := by decide +kernel
theorem dX9_expression_378 : decode cX9_expression 378 = .ok (.ifCond .le 26, 3) := by decide +kernel
theorem dX9_expression_381 : decode cX9_expression 381 = .ok (.aload_n 0, 1) := by decide +kernel
theorem dX9_expression_382 : decode cX9_expression 382 = .ok (.getfield 103, 3) := by decide +kernel
theorem dX9_expression_385 : decode cX9_expression 385 = .ok (.aload_n 0, 1) := by decide +kernel
theorem dX9_expression_386 : decode cX9_expression 386 = .ok (.getfield 220, 3) := by decide +kernel
theorem dX9_expression_389 : decode cX9_expression 389 = .ok (.iconst 1, 1) := by decide +kernel
theorem dX9_expression_390 : decode cX9_expression 390 = .ok (.isub, 1) := by decide +kernel
theorem dX9_expression_391 : decode cX9_expression 391 = .ok (.iaload, 1) := by decide +kernel
theorem dX9_expression_392 : decode cX9_expression 392 = .ok (.invokestatic 223, 3) := by decide +kernel
theorem dX9_expression_395 : decode cX9_expression 395 = .ok (.iconst 1, 1) := by decide +kernel
theorem dX9_expression_396 : decode cX9_expression 396 = .ok (.if_icmp .ne 8, 3) := by decide +kernel
theorem dX9_expression_399 : decode cX9_expression 399 = .ok (.aload_n 0, 1) := by decide +kernel
theorem dX9_expression_400 : decode cX9_expression 400 = .ok (.invokevirtual 213, 3) := by decide +kernel
theorem dX9_expression_403 : decode cX9_expression 403 = .ok (.ireturn, 1) := by decide +kernel
theorem dX9_expression_404 : decode cX9_expression 404 = .ok (.aload_n 0, 1) := by decide +kernel
theorem dX9_expression_405 : decode cX9_expression 405 = .ok (.getfield 103, 3) := by decide +kernel
theorem dX9_expression_408 : decode cX9_expression 408 = .ok (.aload_n 0, 1) := by decide +kernel
theorem dX9_expression_409 : decode cX9_expression 409 = .ok (.getfield 220, 3) := by decide +kernel
theorem dX9_expression_412 : decode cX9_expression 412 = .ok (.iload 8, 2) := by decide +kernel
theorem dX9_expression_414 : decode cX9_expression 414 = .ok (.iastore, 1) := by decide +kernel
theorem dX9_expression_415 : decode cX9_expression 415 = .ok (.aload_n 0, 1) := by decide +kernel
theorem dX9_expression_416 : decode cX9_expression 416 = .ok (.dup, 1) := by decide +kernel
theorem dX9_expression_417 : decode cX9_expression 417 = .ok (.getfield 220, 3) := by decide +kernel
theorem dX9_expression_420 : decode cX9_expression 420 = .ok (.iconst 1, 1) := by decide +kernel
theorem dX9_expression_421 : decode cX9_expression 421 = .ok (.iadd, 1) := by decide +kernel
theorem dX9_expression_422 : decode cX9_expression 422 = .ok (.putfield 220, 3) := by decide +kernel
theorem dX9_expression_425 : decode cX9_expression 425 = .ok (.aload_n 0, 1) := by decide +kernel
theorem dX9_expression_426 : decode cX9_expression 426 = .ok (.dup, 1) := by decide +kernel
theorem dX9_expression_427 : decode cX9_expression 427 = .ok (.getfield 203, 3) := by decide +kernel
theorem dX9_expression_430 : decode cX9_expression 430 = .ok (.iconst 1, 1) := by decide +kernel
theorem dX9_expression_431 : decode cX9_expression 431 = .ok (.iadd, 1) := by decide +kernel
theorem dX9_expression_432 : decode cX9_expression 432 = .ok (.putfield 203, 3) := by decide +kernel
theorem dX9_expression_435 : decode cX9_expression 435 = .ok (.iconst 1, 1) := by decide +kernel
theorem dX9_expression_436 : decode cX9_expression 436 = .ok (.istore 4, 2) := by decide +kernel
theorem dX9_expression_438 : decode cX9_expression 438 = .ok (.iinc 5 1, 3) := by decide +kernel
theorem dX9_expression_441 : decode cX9_expression 441 = .ok (.goto (-426), 3) := by decide +kernel
theorem dX9_expression_444 : decode cX9_expression 444 = .ok (.aload_n 0, 1) := by decide +kernel
theorem dX9_expression_445 : decode cX9_expression 445 = .ok (.invokevirtual 213, 3) := by decide +kernel
theorem dX9_expression_448 : decode cX9_expression 448 = .ok (.ireturn, 1) := by decide +kernel
abbrev MX9_expression : zT := (yX9_expression, cX9_expression, 9, (Option.some Jvm.ClassFile.FieldType.boolean), [])
theorem plX9_expression : zplain MX9_expression 1 ∧ (zcodeW MX9_expression ∈ lw_all ∧ Cond.initialized MX9_expression.1.cls ∈ lw_all) := ⟨⟨by decide +kernel, by decide +kernel⟩, q2205, q127⟩
noncomputable def f_X9_expression_444 (x0 : Int) (σ : zM) : Option zO :=
  zgd (zis σ 10 x0) <|
  zci (f_X9_fail x0 σ) fun v1 σ2 =>
  zgd (z01 v1) <|
  some (0, zi v1, σ2)
theorem w_X9_expression_444 {g : zG} {lv : Nat} {out : zO} (x0 : Int) (σ : zM) {r : zO} (h : f_X9_expression_444 x0 σ = some r) (hk : (fun o : zO => o = out) r) : Gj g MX9_expression (lv + 2) 444 [(0, zr x0)] [] σ out := by
  revert h
  unfold f_X9_expression_444
  refine zst_ (gj_aload_n 0 (pc := 444) dX9_expression_444 rfl) ?_
  refine gb_gd (fun hb => ?_)
  refine gb_callI (pc := 445) (as := [zr x0]) (rest := []) (zCl.of (zLk_V (M := MX9_expression) (ci := 9) (r := (RX9, TX9, 84)) plX9_fail.1 rfl rfl (zisE hb).1 (zisE hb).2 dX9_expression_445 q2166 q2168 qs49 q2169) plX9_fail (Nat.le_of_ble_eq_true rfl) (fun h => c_X9_fail h)) (fun v1 σ2 => ?_)
  refine gb_gd (fun hb => ?_)
  intro h
  cases h
  have hk : (0, zi v1, σ2) = out := hk
  subst hk
  exact gj_ret (pc := 448) (t := .boolean) dX9_expression_448 rfl ⟨rfl, rfl⟩ (fun _ => z01E hb)
noncomputable def f_X9_expression_438 (x0 x1 x2 x3 x4 x5 : Int) (σ : zM) : Option ((Int × Int × Int × Int × zM) ⊕ zO) :=
  zlet (zadd x5 1) fun y1 =>
  some (.inl (x2, x3, x4, y1, σ))
theorem w_X9_expression_438 {g : zG} {lv : Nat} {out : zO} (x0 x1 x2 x3 x4 x5 : Int) (σ : zM) {r : ((Int × Int × Int × Int × zM) ⊕ zO)} (h : f_X9_expression_438 x0 x1 x2 x3 x4 x5 σ = some r) (hk : (zKL (fun s : Int × Int × Int × Int × zM => Gj g MX9_expression (lv + 2) 15 [(0, zr x0), (1, zi x1), (2, zi s.1), (3, zi s.2.1), (4, zi s.2.2.1), (5, zi s.2.2.2.1)] [] s.2.2.2.2 out) (fun o : zO => o = out)) r) : Gj g MX9_expression (lv + 2) 438 [(0, zr x0), (1, zi x1), (2, zi x2), (3, zi x3), (4, zi x4), (5, zi x5)] [] σ out := by
  revert h
  unfold f_X9_expression_438
  refine gb_iinc (pc := 438) 5 (fun y1 => [(5, zi y1), (0, zr x0), (1, zi x1), (2, zi x2), (3, zi x3), (4, zi x4)]) dX9_expression_438 rfl (by decide) (fun _ => rfl) (fun y1 => ?_)
  refine zst_ (gj_goto 15 (pc := 441) dX9_expression_441 (by decide)) ?_
  refine zst_ (gj_sub [1, 2, 3, 4, 5, 0] rfl) ?_
  intro h
  cases h
  exact hk
noncomputable def f_X9_expression_404 (x0 x1 x2 x3 x5 x8 : Int) (σ : zM) : Option ((Int × Int × Int × Int × zM) ⊕ zO) :=
  (zgf σ 943 x0).bind fun v1 =>
  (zgf σ 942 x0).bind fun v2 =>
  (zpa σ 101 v1 v2 x8).bind fun σ3 =>
  (zgf σ3 942 x0).bind fun v4 =>
  (zpf σ3 942 x0 (zadd v4 1)).bind fun σ5 =>
  (zgf σ5 903 x0).bind fun v6 =>
  (zpf σ5 903 x0 (zadd v6 1)).bind fun σ7 =>
  f_X9_expression_438 x0 x1 x2 x3 1 x5 σ7
theorem w_X9_expression_404 {g : zG} {lv : Nat} {out : zO} (x0 x1 x2 x3 x5 x8 : Int) (σ : zM) {r : ((Int × Int × Int × Int × zM) ⊕ zO)} (h : f_X9_expression_404 x0 x1 x2 x3 x5 x8 σ = some r) (hk : (zKL (fun s : Int × Int × Int × Int × zM => Gj g MX9_expression (lv + 2) 15 [(0, zr x0), (1, zi x1), (2, zi s.1), (3, zi s.2.1), (4, zi s.2.2.1), (5, zi s.2.2.2.1)] [] s.2.2.2.2 out) (fun o : zO => o = out)) r) : Gj g MX9_expression (lv + 2) 404 [(0, zr x0), (1, zi x1), (2, zi x2), (3, zi x3), (5, zi x5), (8, zi x8)] [] σ out := by
  revert h
  unfold f_X9_expression_404
  refine zst_ (gj_aload_n 0 (pc := 404) dX9_expression_404 rfl) ?_
  refine gb_get (pc := 405) fl943 dX9_expression_405 q1925 (Or.inl rfl) (fun v1 => ?_)
  refine zst_ (gj_aload_n 0 (pc := 408) dX9_expression_408 rfl) ?_
  refine gb_get (pc := 409) fl942 dX9_expression_409 q1924 (Or.inl rfl) (fun v2 => ?_)
  refine zst_ (gj_iload 5 (pc := 412) dX9_expression_412 rfl) ?_
  refine gb_iast (pc := 414) dX9_expression_414 (fun σ3 => ?_)
  refine zst_ (gj_aload_n 0 (pc := 415) dX9_expression_415 rfl) ?_
  refine zst_ (gj_dup (pc := 416) dX9_expression_416 rfl) ?_
  refine gb_get (pc := 417) fl942 dX9_expression_417 q1924 (Or.inl rfl) (fun v4 => ?_)
  refine zst_ (gj_iconst (pc := 420) dX9_expression_420 (by decide)) ?_
  refine zst_ (gj_iadd (pc := 421) dX9_expression_421) ?_
  refine gb_put (pc := 422) fl942 fr942 dX9_expression_422 q1924 (Or.inl rfl) (fun σ5 => ?_)
  refine zst_ (gj_aload_n 0 (pc := 425) dX9_expression_425 rfl) ?_
  refine zst_ (gj_dup (pc := 426) dX9_expression_426 rfl) ?_
  refine gb_get (pc := 427) fl903 dX9_expression_427 q1885 (Or.inl rfl) (fun v6 => ?_)
  refine zst_ (gj_iconst (pc := 430) dX9_expression_430 (by decide)) ?_
  refine zst_ (gj_iadd (pc := 431) dX9_expression_431) ?_
  refine gb_put (pc := 432) fl903 fr903 dX9_expression_432 q1885 (Or.inl rfl) (fun σ7 => ?_)
  refine zst_ (gj_iconst (pc := 435) dX9_expression_435 (by decide)) ?_
  refine zst_ (gj_istore (pc := 436) (ls' := [(4, zi 1), (0, zr x0), (1, zi x1), (2, zi x2), (3, zi x3), (5, zi x5), (8, zi x8)]) dX9_expression_436 (by decide) rfl) ?_
  refine zst_ (gj_sub [1, 2, 3, 4, 0, 5] rfl) ?_
  exact fun h => w_X9_expression_438 x0 x1 x2 x3 1 x5 σ7 h hk
noncomputable def f_X9_expression_399 (x0 : Int) (σ : zM) : Option zO :=
  zgd (zis σ 10 x0) <|
  zci (f_X9_fail x0 σ) fun v1 σ2 =>
  zgd (z01 v1) <|
  some (0, zi v1, σ2)
theorem w_X9_expression_399 {g : zG} {lv : Nat} {out : zO} (x0 : Int) (σ : zM) {r : zO} (h : f_X9_expression_399 x0 σ = some r) (hk : (fun o : zO => o = out) r) : Gj g MX9_expression (lv + 2) 399 [(0, zr x0)] [] σ out := by
  revert h
  unfold f_X9_expression_399
  refine zst_ (gj_aload_n 0 (pc := 399) dX9_expression_399 rfl) ?_
  refine gb_gd (fun hb => ?_)
  refine gb_callI (pc := 400) (as := [zr x0]) (rest := []) (zCl.of (zLk_V (M := MX9_expression) (ci := 9) (r := (RX9, TX9, 84)) plX9_fail.1 rfl rfl (zisE hb).1 (zisE hb).2 dX9_expression_400 q2166 q2168 qs49 q2169) plX9_fail (Nat.le_of_ble_eq_true rfl) (fun h => c_X9_fail h)) (fun v1 σ2 => ?_)
  refine gb_gd (fun hb => ?_)
  intro h
  cases h
  have hk : (0, zi v1, σ2) = out := hk
  subst hk
  exact gj_ret (pc := 403) (t := .boolean) dX9_expression_403 rfl ⟨rfl, rfl⟩ (fun _ => z01E hb)
noncomputable def f_X9_expression_362 (x0 x1 x2 x3 x5 x8 t0 t1 : Int) (σ : zM) : Option ((Int × Int × Int × Int × zM) ⊕ zO) :=
  zgd (zis σ 10 t1) <|
  zcv (f_X9_settle t1 t0 σ) fun σ1 =>
  zci (f_X9_strength x8 σ1) fun v2 σ3 =>
  if v2 ≠ 1 then
    f_X9_expression_404 x0 x1 x2 x3 x5 x8 σ3
  else
    (zgf σ3 942 x0).bind fun v4 =>
    if v4 ≤ 0 then
      f_X9_expression_404 x0 x1 x2 x3 x5 x8 σ3
    else
      (zgf σ3 943 x0).bind fun v5 =>
      (zgf σ3 942 x0).bind fun v6 =>
      (zga σ3 101 v5 (zsub v6 1)).bind fun v7 =>
      zci (f_X9_strength v7 σ3) fun v8 σ9 =>
      if v8 ≠ 1 then
        f_X9_expression_404 x0 x1 x2 x3 x5 x8 σ9
      else
        (f_X9_expression_399 x0 σ9).map (fun r => (.inr r))
theorem w_X9_expression_362 {g : zG} {lv : Nat} {out : zO} (x0 x1 x2 x3 x5 x8 t0 t1 : Int) (σ : zM) {r : ((Int × Int × Int × Int × zM) ⊕ zO)} (h : f_X9_expression_362 x0 x1 x2 x3 x5 x8 t0 t1 σ = some r) (hk : (zKL (fun s : Int × Int × Int × Int × zM => Gj g MX9_expression (lv + 2) 15 [(0, zr x0), (1, zi x1), (2, zi s.1), (3, zi s.2.1), (4, zi s.2.2.1), (5, zi s.2.2.2.1)] [] s.2.2.2.2 out) (fun o : zO => o = out)) r) : Gj g MX9_expression (lv + 2) 362 [(0, zr x0), (1, zi x1), (2, zi x2), (3, zi x3), (5, zi x5), (8, zi x8)] [zi t0, zr t1] σ out := by
  revert h
  unfold f_X9_expression_362
  refine gb_gd (fun hb => ?_)
  refine gb_callV (pc := 362) (as := [zr t1, zi t0]) (rest := []) (zCl.of (zLk_V (M := MX9_expression) (ci := 9) (r := (RX9, TX9, 84)) plX9_settle.1 rfl rfl (zisE hb).1 (zisE hb).2 dX9_expression_362 q2210 q2212 qs60 q2213) plX9_settle (Nat.le_of_ble_eq_true rfl) (fun h => c_X9_settle h)) (fun σ1 => ?_)
  refine zst_ (gj_iload 5 (pc := 365) dX9_expression_365 rfl) ?_
  refine gb_callI (pc := 367) (as := [zi x8]) (rest := []) (zCl.of (zLk_S (M := MX9_expression) plX9_strength.1 rfl dX9_expression_367 q2214 q2215 q127 q2216) plX9_strength (Nat.le_of_ble_eq_true rfl) (fun h => c_X9_strength h)) (fun v2 σ3 => ?_)
  refine zst_ (gj_iconst (pc := 370) dX9_expression_370 (by decide)) ?_
  refine gb_if (gj_icmp_ne 404 (pc := 371) dX9_expression_371 (by decide)) ?_ ?_
  · exact fun h => w_X9_expression_404 x0 x1 x2 x3 x5 x8 σ3 h hk
  · refine zst_ (gj_aload_n 0 (pc := 374) dX9_expression_374 rfl) ?_
    refine gb_get (pc := 375) fl942 dX9_expression_375 q1924 (Or.inl rfl) (fun v4 => ?_)
    refine gb_if (gj_if_le 404 (pc := 378) dX9_expression_378 (by decide)) ?_ ?_
    · exact fun h => w_X9_expression_404 x0 x1 x2 x3 x5 x8 σ3 h hk
    · refine zst_ (gj_aload_n 0 (pc := 381) dX9_expression_381 rfl) ?_
      refine gb_get (pc := 382) fl943 dX9_expression_382 q1925 (Or.inl rfl) (fun v5 => ?_)
      refine zst_ (gj_aload_n 0 (pc := 385) dX9_expression_385 rfl) ?_
      refine gb_get (pc := 386) fl942 dX9_expression_386 q1924 (Or.inl rfl) (fun v6 => ?_)
      refine zst_ (gj_iconst (pc := 389) dX9_expression_389 (by decide)) ?_
      refine zst_ (gj_isub (pc := 390) dX9_expression_390) ?_
      refine gb_iald (pc := 391) dX9_expression_391 (fun v7 => ?_)
      refine gb_callI (pc := 392) (as := [zi v7]) (rest := []) (zCl.of (zLk_S (M := MX9_expression) plX9_strength.1 rfl dX9_expression_392 q2214 q2215 q127 q2216) plX9_strength (Nat.le_of_ble_eq_true rfl) (fun h => c_X9_strength h)) (fun v8 σ9 => ?_)
      refine zst_ (gj_iconst (pc := 395) dX9_expression_395 (by decide)) ?_
      refine gb_if (gj_icmp_ne 404 (pc := 396) dX9_expression_396 (by decide)) ?_ ?_
      · exact fun h => w_X9_expression_404 x0 x1 x2 x3 x5 x8 σ9 h hk
      · refine zst_ (gj_sub [0] rfl) ?_
        intro h
        obtain ⟨r0, h0, rfl⟩ := zmE h
        exact w_X9_expression_399 x0 σ9 h0 hk
noncomputable def f_X9_expression_342 (t0 : Int) (σ : zM) : Option zO :=
  zgd (z01 t0) <|
  some (0, zi t0, σ)
theorem w_X9_expression_342 {g : zG} {lv : Nat} {out : zO} (t0 : Int) (σ : zM) {r : zO} (h : f_X9_expression_342 t0 σ = some r) (hk : (fun o : zO => o = out) r) : Gj g MX9_expression (lv + 2) 342 [] [zi t0] σ out := by
  revert h
  unfold f_X9_expression_342
  refine gb_gd (fun hb => ?_)
  intro h
  cases h
  have hk : (0, zi t0, σ) = out := hk
  subst hk
  exact gj_ret (pc := 342) (t := .boolean) dX9_expression_342 rfl ⟨rfl, rfl⟩ (fun _ => z01E hb)
noncomputable def f_X9_expression_337 (σ : zM) : Option zO :=
  f_X9_expression_342 1 σ
theorem w_X9_expression_337 {g : zG} {lv : Nat} {out : zO} (σ : zM) {r : zO} (h : f_X9_expression_337  σ = some r) (hk : (fun o : zO => o = out) r) : Gj g MX9_expression (lv + 2) 337 [] [] σ out := by
  revert h
  unfold f_X9_expression_337
  refine zst_ (gj_iconst (pc := 337) dX9_expression_337 (by decide)) ?_
  refine zst_ (gj_goto 342 (pc := 338) dX9_expression_338 (by decide)) ?_
  exact fun h => w_X9_expression_342 1 σ h hk
noncomputable def f_X9_expression_318 (x0 : Int) (σ : zM) : Option zO :=
  zgd (zis σ 10 x0) <|
  zcv (f_X9_settle x0 1 σ) fun σ1 =>
  (zgf σ1 942 x0).bind fun v2 =>
  if v2 = 0 then
    f_X9_expression_337 σ1
  else
    zgd (zis σ1 10 x0) <|
    zci (f_X9_fail x0 σ1) fun v3 σ4 =>
    if v3 = 0 then
      f_X9_expression_342 0 σ4
    else
      f_X9_expression_337 σ4
theorem w_X9_expression_318 {g : zG} {lv : Nat} {out : zO} (x0 : Int) (σ : zM) {r : zO} (h : f_X9_expression_318 x0 σ = some r) (hk : (fun o : zO => o = out) r) : Gj g MX9_expression (lv + 2) 318 [(0, zr x0)] [] σ out := by
  revert h
  unfold f_X9_expression_318
  refine zst_ (gj_aload_n 0 (pc := 318) dX9_expression_318 rfl) ?_
  refine zst_ (gj_iconst (pc := 319) dX9_expression_319 (by decide)) ?_
  refine gb_gd (fun hb => ?_)
  refine gb_callV (pc := 320) (as := [zr x0, zi 1]) (rest := []) (zCl.of (zLk_V (M := MX9_expression) (ci := 9) (r := (RX9, TX9, 84)) plX9_settle.1 rfl rfl (zisE hb).1 (zisE hb).2 dX9_expression_320 q2210 q2212 qs60 q2213) plX9_settle (Nat.le_of_ble_eq_true rfl) (fun h => c_X9_settle h)) (fun σ1 => ?_)
  refine zst_ (gj_aload_n 0 (pc := 323) dX9_expression_323 rfl) ?_
  refine gb_get (pc := 324) fl942 dX9_expression_324 q1924 (Or.inl rfl) (fun v2 => ?_)
  refine gb_if (gj_if_eq 337 (pc := 327) dX9_expression_327 (by decide)) ?_ ?_
  · refine zst_ (gj_sub [] rfl) ?_
    exact fun h => w_X9_expression_337 σ1 h hk
  · refine zst_ (gj_aload_n 0 (pc := 330) dX9_expression_330 rfl) ?_
    refine gb_gd (fun hb => ?_)
    refine gb_callI (pc := 331) (as := [zr x0]) (rest := []) (zCl.of (zLk_V (M := MX9_expression) (ci := 9) (r := (RX9, TX9, 84)) plX9_fail.1 rfl rfl (zisE hb).1 (zisE hb).2 dX9_expression_331 q2166 q2168 qs49 q2169) plX9_fail (Nat.le_of_ble_eq_true rfl) (fun h => c_X9_fail h)) (fun v3 σ4 => ?_)
    refine gb_if (gj_if_eq 341 (pc := 334) dX9_expression_334 (by decide)) ?_ ?_
    · refine zst_ (gj_iconst (pc := 341) dX9_expression_341 (by decide)) ?_
      refine zst_ (gj_sub [] rfl) ?_
      exact fun h => w_X9_expression_342 0 σ4 h hk
    · refine zst_ (gj_sub [] rfl) ?_
      exact fun h => w_X9_expression_337 σ4 h hk
noncomputable def f_X9_expression_311 (x0 x1 x2 x3 x5 t0 : Int) (σ : zM) : Option ((Int × Int × Int × Int × zM) ⊕ zO) :=
  if 0 ≤ t0 then
    zci (f_X9_strength t0 σ) fun v1 σ2 =>
    if 2 ≤ v1 then
      zci (f_X9_strength t0 σ2) fun v3 σ4 =>
      f_X9_expression_362 x0 x1 x2 x3 x5 t0 v3 x0 σ4
    else
      f_X9_expression_362 x0 x1 x2 x3 x5 t0 2 x0 σ2
  else
    (f_X9_expression_318 x0 σ).map (fun r => (.inr r))
theorem w_X9_expression_311 {g : zG} {lv : Nat} {out : zO} (x0 x1 x2 x3 x5 t0 : Int) (σ : zM) {r : ((Int × Int × Int × Int × zM) ⊕ zO)} (h : f_X9_expression_311 x0 x1 x2 x3 x5 t0 σ = some r) (hk : (zKL (fun s : Int × Int × Int × Int × zM => Gj g MX9_expression (lv + 2) 15 [(0, zr x0), (1, zi x1), (2, zi s.1), (3, zi s.2.1), (4, zi s.2.2.1), (5, zi s.2.2.2.1)] [] s.2.2.2.2 out) (fun o : zO => o = out)) r) : Gj g MX9_expression (lv + 2) 311 [(0, zr x0), (1, zi x1), (2, zi x2), (3, zi x3), (5, zi x5)] [zi t0] σ out := by
  revert h
  unfold f_X9_expression_311
  refine zst_ (gj_istore (pc := 311) (ls' := [(8, zi t0), (0, zr x0), (1, zi x1), (2, zi x2), (3, zi x3), (5, zi x5)]) dX9_expression_311 (by decide) rfl) ?_
  refine zst_ (gj_iload 0 (pc := 313) dX9_expression_313 rfl) ?_
  refine gb_if (gj_if_ge 343 (pc := 315) dX9_expression_315 (by decide)) ?_ ?_
  · refine zst_ (gj_aload_n 1 (pc := 343) dX9_expression_343 rfl) ?_
    refine zst_ (gj_iload 0 (pc := 344) dX9_expression_344 rfl) ?_
    refine gb_callI (pc := 346) (as := [zi t0]) (rest := [zr x0]) (zCl.of (zLk_S (M := MX9_expression) plX9_strength.1 rfl dX9_expression_346 q2214 q2215 q127 q2216) plX9_strength (Nat.le_of_ble_eq_true rfl) (fun h => c_X9_strength h)) (fun v1 σ2 => ?_)
    refine zst_ (gj_iconst (pc := 349) dX9_expression_349 (by decide)) ?_
    refine gb_if (gj_icmp_ge 357 (pc := 350) dX9_expression_350 (by decide)) ?_ ?_
    · refine zst_ (gj_iload 0 (pc := 357) dX9_expression_357 rfl) ?_
      refine gb_callI (pc := 359) (as := [zi t0]) (rest := [zr x0]) (zCl.of (zLk_S (M := MX9_expression) plX9_strength.1 rfl dX9_expression_359 q2214 q2215 q127 q2216) plX9_strength (Nat.le_of_ble_eq_true rfl) (fun h => c_X9_strength h)) (fun v3 σ4 => ?_)
      refine zst_ (gj_sub [1, 2, 3, 4, 5, 0] rfl) ?_
      exact fun h => w_X9_expression_362 x0 x1 x2 x3 x5 t0 v3 x0 σ4 h hk
    · refine zst_ (gj_iconst (pc := 353) dX9_expression_353 (by decide)) ?_
      refine zst_ (gj_goto 362 (pc := 354) dX9_expression_354 (by decide)) ?_
      refine zst_ (gj_sub [1, 2, 3, 4, 5, 0] rfl) ?_
      exact fun h => w_X9_expression_362 x0 x1 x2 x3 x5 t0 2 x0 σ2 h hk
  · refine zst_ (gj_sub [1] rfl) ?_
    intro h
    obtain ⟨r0, h0, rfl⟩ := zmE h
    exact w_X9_expression_318 x0 σ h0 hk
noncomputable def f_X9_expression_250 (x0 x1 x2 x3 x5 x6 : Int) (σ : zM) : Option ((Int × Int × Int × Int × zM) ⊕ zO) :=
  if x6 ≠ 43 then
    if x6 ≠ 45 then
      if x6 ≠ 42 then
        if x6 ≠ 61 then
          if x6 ≠ 60 then
            f_X9_expression_311 x0 x1 x2 x3 x5 (-1) σ
          else
            f_X9_expression_311 x0 x1 x2 x3 x5 20 σ
        else
          f_X9_expression_311 x0 x1 x2 x3 x5 19 σ
      else
        f_X9_expression_311 x0 x1 x2 x3 x5 18 σ
    else
      f_X9_expression_311 x0 x1 x2 x3 x5 17 σ
  else
    f_X9_expression_311 x0 x1 x2 x3 x5 16 σ
theorem w_X9_expression_250 {g : zG} {lv : Nat} {out : zO} (x0 x1 x2 x3 x5 x6 : Int) (σ : zM) {r : ((Int × Int × Int × Int × zM) ⊕ zO)} (h : f_X9_expression_250 x0 x1 x2 x3 x5 x6 σ = some r) (hk : (zKL (fun s : Int × Int × Int × Int × zM => Gj g MX9_expression (lv + 2) 15 [(0, zr x0), (1, zi x1), (2, zi s.1), (3, zi s.2.1), (4, zi s.2.2.1), (5, zi s.2.2.2.1)] [] s.2.2.2.2 out) (fun o : zO => o = out)) r) : Gj g MX9_expression (lv + 2) 250 [(0, zr x0), (1, zi x1), (2, zi x2), (3, zi x3), (5, zi x5), (6, zi x6)] [] σ out := by
  revert h
  unfold f_X9_expression_250
  refine zst_ (gj_iload 5 (pc := 250) dX9_expression_250 rfl) ?_
  refine zst_ (gj_bipush (pc := 252) dX9_expression_252 ⟨rfl, by decide⟩) ?_
  refine gb_if (gj_icmp_ne 262 (pc := 254) dX9_expression_254 (by decide)) ?_ ?_
  · refine zst_ (gj_iload 5 (pc := 262) dX9_expression_262 rfl) ?_
    refine zst_ (gj_bipush (pc := 264) dX9_expression_264 ⟨rfl, by decide⟩) ?_
    refine gb_if (gj_icmp_ne 274 (pc := 266) dX9_expression_266 (by decide)) ?_ ?_
    · refine zst_ (gj_iload 5 (pc := 274) dX9_expression_274 rfl) ?_
      refine zst_ (gj_bipush (pc := 276) dX9_expression_276 ⟨rfl, by decide⟩) ?_
      refine gb_if (gj_icmp_ne 286 (pc := 278) dX9_expression_278 (by decide)) ?_ ?_
      · refine zst_ (gj_iload 5 (pc := 286) dX9_expression_286 rfl) ?_
        refine zst_ (gj_bipush (pc := 288) dX9_expression_288 ⟨rfl, by decide⟩) ?_
        refine gb_if (gj_icmp_ne 298 (pc := 290) dX9_expression_290 (by decide)) ?_ ?_
        · refine zst_ (gj_iload 5 (pc := 298) dX9_expression_298 rfl) ?_
          refine zst_ (gj_bipush (pc := 300) dX9_expression_300 ⟨rfl, by decide⟩) ?_
          refine gb_if (gj_icmp_ne 310 (pc := 302) dX9_expression_302 (by decide)) ?_ ?_
          · refine zst_ (gj_iconst (pc := 310) dX9_expression_310 (by decide)) ?_
            refine zst_ (gj_sub [0, 1, 2, 3, 4] rfl) ?_
            exact fun h => w_X9_expression_311 x0 x1 x2 x3 x5 (-1) σ h hk
          · refine zst_ (gj_bipush (pc := 305) dX9_expression_305 ⟨rfl, by decide⟩) ?_
            refine zst_ (gj_goto 311 (pc := 307) dX9_expression_307 (by decide)) ?_
            refine zst_ (gj_sub [0, 1, 2, 3, 4] rfl) ?_
            exact fun h => w_X9_expression_311 x0 x1 x2 x3 x5 20 σ h hk
        · refine zst_ (gj_bipush (pc := 293) dX9_expression_293 ⟨rfl, by decide⟩) ?_
          refine zst_ (gj_goto 311 (pc := 295) dX9_expression_295 (by decide)) ?_
          refine zst_ (gj_sub [0, 1, 2, 3, 4] rfl) ?_
          exact fun h => w_X9_expression_311 x0 x1 x2 x3 x5 19 σ h hk
      · refine zst_ (gj_bipush (pc := 281) dX9_expression_281 ⟨rfl, by decide⟩) ?_
        refine zst_ (gj_goto 311 (pc := 283) dX9_expression_283 (by decide)) ?_
        refine zst_ (gj_sub [0, 1, 2, 3, 4] rfl) ?_
        exact fun h => w_X9_expression_311 x0 x1 x2 x3 x5 18 σ h hk
    · refine zst_ (gj_bipush (pc := 269) dX9_expression_269 ⟨rfl, by decide⟩) ?_
      refine zst_ (gj_goto 311 (pc := 271) dX9_expression_271 (by decide)) ?_
      refine zst_ (gj_sub [0, 1, 2, 3, 4] rfl) ?_
      exact fun h => w_X9_expression_311 x0 x1 x2 x3 x5 17 σ h hk
  · refine zst_ (gj_bipush (pc := 257) dX9_expression_257 ⟨rfl, by decide⟩) ?_
    refine zst_ (gj_goto 311 (pc := 259) dX9_expression_259 (by decide)) ?_
    refine zst_ (gj_sub [0, 1, 2, 3, 4] rfl) ?_
    exact fun h => w_X9_expression_311 x0 x1 x2 x3 x5 16 σ h hk
noncomputable def f_X9_expression_188 (x0 x1 x2 x3 x5 t0 t1 : Int) (σ : zM) : Option ((Int × Int × Int × Int × zM) ⊕ zO) :=
  zgd (zis σ 10 t1) <|
  zcv (f_X9_emit t1 t0 σ) fun σ1 =>
  (zgf σ1 903 x0).bind fun v2 =>
  (zpf σ1 903 x0 (zadd v2 1)).bind fun σ3 =>
  f_X9_expression_438 x0 x1 x2 x3 0 x5 σ3
theorem w_X9_expression_188 {g : zG} {lv : Nat} {out : zO} (x0 x1 x2 x3 x5 t0 t1 : Int) (σ : zM) {r : ((Int × Int × Int × Int × zM) ⊕ zO)} (h : f_X9_expression_188 x0 x1 x2 x3 x5 t0 t1 σ = some r) (hk : (zKL (fun s : Int × Int × Int × Int × zM => Gj g MX9_expression (lv + 2) 15 [(0, zr x0), (1, zi x1), (2, zi s.1), (3, zi s.2.1), (4, zi s.2.2.1), (5, zi s.2.2.2.1)] [] s.2.2.2.2 out) (fun o : zO => o = out)) r) : Gj g MX9_expression (lv + 2) 188 [(0, zr x0), (1, zi x1), (2, zi x2), (3, zi x3), (5, zi x5)] [zi t0, zr t1] σ out := by
  revert h
  unfold f_X9_expression_188
  refine gb_gd (fun hb => ?_)
  refine gb_callV (pc := 188) (as := [zr t1, zi t0]) (rest := []) (zCl.of (zLk_V (M := MX9_expression) (ci := 9) (r := (RX9, TX9, 84)) plX9_emit.1 rfl rfl (zisE hb).1 (zisE hb).2 dX9_expression_188 q2206 q2208 qs59 q2209) plX9_emit (Nat.le_of_ble_eq_true rfl) (fun h => c_X9_emit h)) (fun σ1 => ?_)
  refine zst_ (gj_aload_n 0 (pc := 191) dX9_expression_191 rfl) ?_
  refine zst_ (gj_dup (pc := 192) dX9_expression_192 rfl) ?_
  refine gb_get (pc := 193) fl903 dX9_expression_193 q1885 (Or.inl rfl) (fun v2 => ?_)
  refine zst_ (gj_iconst (pc := 196) dX9_expression_196 (by decide)) ?_
  refine zst_ (gj_iadd (pc := 197) dX9_expression_197) ?_
  refine gb_put (pc := 198) fl903 fr903 dX9_expression_198 q1885 (Or.inl rfl) (fun σ3 => ?_)
  refine zst_ (gj_iconst (pc := 201) dX9_expression_201 (by decide)) ?_
  refine zst_ (gj_istore (pc := 202) (ls' := [(4, zi 0), (0, zr x0), (1, zi x1), (2, zi x2), (3, zi x3), (5, zi x5)]) dX9_expression_202 (by decide) rfl) ?_
  refine zst_ (gj_goto 438 (pc := 204) dX9_expression_204 (by decide)) ?_
  refine zst_ (gj_sub [1, 2, 3, 4, 0, 5] rfl) ?_
  exact fun h => w_X9_expression_438 x0 x1 x2 x3 0 x5 σ3 h hk
noncomputable def f_X9_expression_158 (x0 : Int) (σ : zM) : Option zO :=
  zgd (zis σ 10 x0) <|
  zci (f_X9_fail x0 σ) fun v1 σ2 =>
  zgd (z01 v1) <|
  some (0, zi v1, σ2)
theorem w_X9_expression_158 {g : zG} {lv : Nat} {out : zO} (x0 : Int) (σ : zM) {r : zO} (h : f_X9_expression_158 x0 σ = some r) (hk : (fun o : zO => o = out) r) : Gj g MX9_expression (lv + 2) 158 [(0, zr x0)] [] σ out := by
  revert h
  unfold f_X9_expression_158
  refine zst_ (gj_aload_n 0 (pc := 158) dX9_expression_158 rfl) ?_
  refine gb_gd (fun hb => ?_)
  refine gb_callI (pc := 159) (as := [zr x0]) (rest := []) (zCl.of (zLk_V (M := MX9_expression) (ci := 9) (r := (RX9, TX9, 84)) plX9_fail.1 rfl rfl (zisE hb).1 (zisE hb).2 dX9_expression_159 q2166 q2168 qs49 q2169) plX9_fail (Nat.le_of_ble_eq_true rfl) (fun h => c_X9_fail h)) (fun v1 σ2 => ?_)
  refine gb_gd (fun hb => ?_)
  intro h
  cases h
  have hk : (0, zi v1, σ2) = out := hk
  subst hk
  exact gj_ret (pc := 162) (t := .boolean) dX9_expression_162 rfl ⟨rfl, rfl⟩ (fun _ => z01E hb)
noncomputable def f_X9_expression_152 (x0 x1 x2 x3 x5 x7 x8 : Int) (σ : zM) : Option ((Int × Int × Int × Int × zM) ⊕ zO) :=
  if x2 ≠ 12 then
    zlet (zadd x2 1) fun y1 =>
    if x8 = 0 then
      zgd (zis σ 10 x0) <|
      zci (f_X9_from x0 48 8 σ) fun v2 σ3 =>
      f_X9_expression_188 x0 x1 y1 x3 x5 v2 x0 σ3
    else
      f_X9_expression_188 x0 x1 y1 x3 x5 (zadd 8 x7) x0 σ
  else
    (f_X9_expression_158 x0 σ).map (fun r => (.inr r))
theorem w_X9_expression_152 {g : zG} {lv : Nat} {out : zO} (x0 x1 x2 x3 x5 x7 x8 : Int) (σ : zM) {r : ((Int × Int × Int × Int × zM) ⊕ zO)} (h : f_X9_expression_152 x0 x1 x2 x3 x5 x7 x8 σ = some r) (hk : (zKL (fun s : Int × Int × Int × Int × zM => Gj g MX9_expression (lv + 2) 15 [(0, zr x0), (1, zi x1), (2, zi s.1), (3, zi s.2.1), (4, zi s.2.2.1), (5, zi s.2.2.2.1)] [] s.2.2.2.2 out) (fun o : zO => o = out)) r) : Gj g MX9_expression (lv + 2) 152 [(0, zr x0), (1, zi x1), (2, zi x2), (3, zi x3), (5, zi x5), (7, zi x7), (8, zi x8)] [] σ out := by
  revert h
  unfold f_X9_expression_152
  refine zst_ (gj_iload_n 2 (pc := 152) dX9_expression_152 rfl) ?_
  refine zst_ (gj_bipush (pc := 153) dX9_expression_153 ⟨rfl, by decide⟩) ?_
  refine gb_if (gj_icmp_ne 163 (pc := 155) dX9_expression_155 (by decide)) ?_ ?_
  · refine gb_iinc (pc := 163) 2 (fun y1 => [(2, zi y1), (0, zr x0), (1, zi x1), (3, zi x3), (5, zi x5), (7, zi x7), (8, zi x8)]) dX9_expression_163 rfl (by decide) (fun _ => rfl) (fun y1 => ?_)
    refine zst_ (gj_aload_n 1 (pc := 166) dX9_expression_166 rfl) ?_
    refine zst_ (gj_iload 6 (pc := 167) dX9_expression_167 rfl) ?_
    refine gb_if (gj_if_eq 180 (pc := 169) dX9_expression_169 (by decide)) ?_ ?_
    · refine zst_ (gj_aload_n 1 (pc := 180) dX9_expression_180 rfl) ?_
      refine zst_ (gj_bipush (pc := 181) dX9_expression_181 ⟨rfl, by decide⟩) ?_
      refine zst_ (gj_bipush (pc := 183) dX9_expression_183 ⟨rfl, by decide⟩) ?_
      refine gb_gd (fun hb => ?_)
      refine gb_callI (pc := 185) (as := [zr x0, zi 48, zi 8]) (rest := [zr x0]) (zCl.of (zLk_V (M := MX9_expression) (ci := 9) (r := (RX9, TX9, 84)) plX9_from.1 rfl rfl (zisE hb).1 (zisE hb).2 dX9_expression_185 q2162 q2164 qs48 q2165) plX9_from (Nat.le_of_ble_eq_true rfl) (fun h => c_X9_from h)) (fun v2 σ3 => ?_)
      refine zst_ (gj_sub [1, 2, 0, 3, 4] rfl) ?_
      exact fun h => w_X9_expression_188 x0 x1 y1 x3 x5 v2 x0 σ3 h hk
    · refine zst_ (gj_bipush (pc := 172) dX9_expression_172 ⟨rfl, by decide⟩) ?_
      refine zst_ (gj_iload 5 (pc := 174) dX9_expression_174 rfl) ?_
      refine zst_ (gj_iadd (pc := 176) dX9_expression_176) ?_
      refine zst_ (gj_goto 188 (pc := 177) dX9_expression_177 (by decide)) ?_
      refine zst_ (gj_sub [1, 2, 0, 3, 4] rfl) ?_
      exact fun h => w_X9_expression_188 x0 x1 y1 x3 x5 (zadd 8 x7) x0 σ h hk
  · refine zst_ (gj_sub [0] rfl) ?_
    intro h
    obtain ⟨r0, h0, rfl⟩ := zmE h
    exact w_X9_expression_158 x0 σ h0 hk
noncomputable def f_X9_expression_134 (x0 x1 x2 x3 x5 x7 t0 : Int) (σ : zM) : Option ((Int × Int × Int × Int × zM) ⊕ zO) :=
  if t0 ≠ 0 then
    f_X9_expression_152 x0 x1 x2 x3 x5 x7 t0 σ
  else
    zgd (zis σ 10 x0) <|
    zci (f_X9_from x0 48 8 σ) fun v1 σ2 =>
    if v1 < 0 then
      (f_X9_expression_158 x0 σ2).map (fun r => (.inr r))
    else
      f_X9_expression_152 x0 x1 x2 x3 x5 x7 t0 σ2
theorem w_X9_expression_134 {g : zG} {lv : Nat} {out : zO} (x0 x1 x2 x3 x5 x7 t0 : Int) (σ : zM) {r : ((Int × Int × Int × Int × zM) ⊕ zO)} (h : f_X9_expression_134 x0 x1 x2 x3 x5 x7 t0 σ = some r) (hk : (zKL (fun s : Int × Int × Int × Int × zM => Gj g MX9_expression (lv + 2) 15 [(0, zr x0), (1, zi x1), (2, zi s.1), (3, zi s.2.1), (4, zi s.2.2.1), (5, zi s.2.2.2.1)] [] s.2.2.2.2 out) (fun o : zO => o = out)) r) : Gj g MX9_expression (lv + 2) 134 [(0, zr x0), (1, zi x1), (2, zi x2), (3, zi x3), (5, zi x5), (7, zi x7)] [zi t0] σ out := by
  revert h
  unfold f_X9_expression_134
  refine zst_ (gj_istore (pc := 134) (ls' := [(8, zi t0), (0, zr x0), (1, zi x1), (2, zi x2), (3, zi x3), (5, zi x5), (7, zi x7)]) dX9_expression_134 (by decide) rfl) ?_
  refine zst_ (gj_iload 0 (pc := 136) dX9_expression_136 rfl) ?_
  refine gb_if (gj_if_ne 152 (pc := 138) dX9_expression_138 (by decide)) ?_ ?_
  · refine zst_ (gj_sub [1, 2, 3, 4, 5, 6, 0] rfl) ?_
    exact fun h => w_X9_expression_152 x0 x1 x2 x3 x5 x7 t0 σ h hk
  · refine zst_ (gj_aload_n 1 (pc := 141) dX9_expression_141 rfl) ?_
    refine zst_ (gj_bipush (pc := 142) dX9_expression_142 ⟨rfl, by decide⟩) ?_
    refine zst_ (gj_bipush (pc := 144) dX9_expression_144 ⟨rfl, by decide⟩) ?_
    refine gb_gd (fun hb => ?_)
    refine gb_callI (pc := 146) (as := [zr x0, zi 48, zi 8]) (rest := []) (zCl.of (zLk_V (M := MX9_expression) (ci := 9) (r := (RX9, TX9, 84)) plX9_from.1 rfl rfl (zisE hb).1 (zisE hb).2 dX9_expression_146 q2162 q2164 qs48 q2165) plX9_from (Nat.le_of_ble_eq_true rfl) (fun h => c_X9_from h)) (fun v1 σ2 => ?_)
    refine gb_if (gj_if_lt 158 (pc := 149) dX9_expression_149 (by decide)) ?_ ?_
    · refine zst_ (gj_sub [1] rfl) ?_
      intro h
      obtain ⟨r0, h0, rfl⟩ := zmE h
      exact w_X9_expression_158 x0 σ2 h0 hk
    · refine zst_ (gj_sub [1, 2, 3, 4, 5, 6, 0] rfl) ?_
      exact fun h => w_X9_expression_152 x0 x1 x2 x3 x5 x7 t0 σ2 h hk
noncomputable def f_X9_expression_133 (x0 x1 x2 x3 x5 x7 : Int) (σ : zM) : Option ((Int × Int × Int × Int × zM) ⊕ zO) :=
  f_X9_expression_134 x0 x1 x2 x3 x5 x7 0 σ
theorem w_X9_expression_133 {g : zG} {lv : Nat} {out : zO} (x0 x1 x2 x3 x5 x7 : Int) (σ : zM) {r : ((Int × Int × Int × Int × zM) ⊕ zO)} (h : f_X9_expression_133 x0 x1 x2 x3 x5 x7 σ = some r) (hk : (zKL (fun s : Int × Int × Int × Int × zM => Gj g MX9_expression (lv + 2) 15 [(0, zr x0), (1, zi x1), (2, zi s.1), (3, zi s.2.1), (4, zi s.2.2.1), (5, zi s.2.2.2.1)] [] s.2.2.2.2 out) (fun o : zO => o = out)) r) : Gj g MX9_expression (lv + 2) 133 [(0, zr x0), (1, zi x1), (2, zi x2), (3, zi x3), (5, zi x5), (7, zi x7)] [] σ out := by
  revert h
  unfold f_X9_expression_133
  refine zst_ (gj_iconst (pc := 133) dX9_expression_133 (by decide)) ?_
  exact fun h => w_X9_expression_134 x0 x1 x2 x3 x5 x7 0 σ h hk
noncomputable def f_X9_expression_129 (x0 x1 x2 x3 x5 x7 : Int) (σ : zM) : Option ((Int × Int × Int × Int × zM) ⊕ zO) :=
  f_X9_expression_134 x0 x1 x2 x3 x5 x7 1 σ
theorem w_X9_expression_129 {g : zG} {lv : Nat} {out : zO} (x0 x1 x2 x3 x5 x7 : Int) (σ : zM) {r : ((Int × Int × Int × Int × zM) ⊕ zO)} (h : f_X9_expression_129 x0 x1 x2 x3 x5 x7 σ = some r) (hk : (zKL (fun s : Int × Int × Int × Int × zM => Gj g MX9_expression (lv + 2) 15 [(0, zr x0), (1, zi x1), (2, zi s.1), (3, zi s.2.1), (4, zi s.2.2.1), (5, zi s.2.2.2.1)] [] s.2.2.2.2 out) (fun o : zO => o = out)) r) : Gj g MX9_expression (lv + 2) 129 [(0, zr x0), (1, zi x1), (2, zi x2), (3, zi x3), (5, zi x5), (7, zi x7)] [] σ out := by
  revert h
  unfold f_X9_expression_129
  refine zst_ (gj_iconst (pc := 129) dX9_expression_129 (by decide)) ?_
  refine zst_ (gj_goto 134 (pc := 130) dX9_expression_130 (by decide)) ?_
  exact fun h => w_X9_expression_134 x0 x1 x2 x3 x5 x7 1 σ h hk
noncomputable def f_X9_expression_99 (x0 x1 x2 x3 x4 x5 x6 x7 : Int) (σ : zM) : Option ((Int × Int × Int × Int × zM) ⊕ zO) :=
  if x4 = 0 then
    if x6 ≠ 41 then
      f_X9_expression_250 x0 x1 x2 x3 x5 x6 σ
    else
      if x3 ≤ x1 then
        f_X9_expression_250 x0 x1 x2 x3 x5 x6 σ
      else
        zgd (zis σ 10 x0) <|
        zcv (f_X9_settle x0 1 σ) fun σ1 =>
        (zgf σ1 942 x0).bind fun v2 =>
        (zpf σ1 942 x0 (zsub v2 1)).bind fun σ3 =>
        zlet (zadd x3 (-1)) fun y4 =>
        (zgf σ3 903 x0).bind fun v5 =>
        (zpf σ3 903 x0 (zadd v5 1)).bind fun σ6 =>
        f_X9_expression_438 x0 x1 x2 y4 x4 x5 σ6
  else
    if x7 < 0 then
      f_X9_expression_133 x0 x1 x2 x3 x5 x7 σ
    else
      (zgf σ 909 x0).bind fun v7 =>
      (zga σ 101 v7 x7).bind fun v8 =>
      if 0 ≤ v8 then
        f_X9_expression_129 x0 x1 x2 x3 x5 x7 σ
      else
        (zgf σ 910 x0).bind fun v9 =>
        (zga σ 101 v9 x7).bind fun v10 =>
        if v10 < 0 then
          f_X9_expression_133 x0 x1 x2 x3 x5 x7 σ
        else
          f_X9_expression_129 x0 x1 x2 x3 x5 x7 σ
theorem w_X9_expression_99 {g : zG} {lv : Nat} {out : zO} (x0 x1 x2 x3 x4 x5 x6 x7 : Int) (σ : zM) {r : ((Int × Int × Int × Int × zM) ⊕ zO)} (h : f_X9_expression_99 x0 x1 x2 x3 x4 x5 x6 x7 σ = some r) (hk : (zKL (fun s : Int × Int × Int × Int × zM => Gj g MX9_expression (lv + 2) 15 [(0, zr x0), (1, zi x1), (2, zi s.1), (3, zi s.2.1), (4, zi s.2.2.1), (5, zi s.2.2.2.1)] [] s.2.2.2.2 out) (fun o : zO => o = out)) r) : Gj g MX9_expression (lv + 2) 99 [(0, zr x0), (1, zi x1), (2, zi x2), (3, zi x3), (4, zi x4), (5, zi x5), (6, zi x6), (7, zi x7)] [] σ out := by
  revert h
  unfold f_X9_expression_99
  refine zst_ (gj_iload 4 (pc := 99) dX9_expression_99 rfl) ?_
  refine gb_if (gj_if_eq 207 (pc := 101) dX9_expression_101 (by decide)) ?_ ?_
  · refine zst_ (gj_iload 6 (pc := 207) dX9_expression_207 rfl) ?_
    refine zst_ (gj_bipush (pc := 209) dX9_expression_209 ⟨rfl, by decide⟩) ?_
    refine gb_if (gj_icmp_ne 250 (pc := 211) dX9_expression_211 (by decide)) ?_ ?_
    · refine zst_ (gj_sub [0, 1, 2, 3, 5, 6] rfl) ?_
      exact fun h => w_X9_expression_250 x0 x1 x2 x3 x5 x6 σ h hk
    · refine zst_ (gj_iload_n 3 (pc := 214) dX9_expression_214 rfl) ?_
      refine zst_ (gj_iload_n 1 (pc := 215) dX9_expression_215 rfl) ?_
      refine gb_if (gj_icmp_le 250 (pc := 216) dX9_expression_216 (by decide)) ?_ ?_
      · refine zst_ (gj_sub [0, 1, 2, 3, 5, 6] rfl) ?_
        exact fun h => w_X9_expression_250 x0 x1 x2 x3 x5 x6 σ h hk
      · refine zst_ (gj_aload_n 0 (pc := 219) dX9_expression_219 rfl) ?_
        refine zst_ (gj_iconst (pc := 220) dX9_expression_220 (by decide)) ?_
        refine gb_gd (fun hb => ?_)
        refine gb_callV (pc := 221) (as := [zr x0, zi 1]) (rest := []) (zCl.of (zLk_V (M := MX9_expression) (ci := 9) (r := (RX9, TX9, 84)) plX9_settle.1 rfl rfl (zisE hb).1 (zisE hb).2 dX9_expression_221 q2210 q2212 qs60 q2213) plX9_settle (Nat.le_of_ble_eq_true rfl) (fun h => c_X9_settle h)) (fun σ1 => ?_)
        refine zst_ (gj_aload_n 0 (pc := 224) dX9_expression_224 rfl) ?_
        refine zst_ (gj_dup (pc := 225) dX9_expression_225 rfl) ?_
        refine gb_get (pc := 226) fl942 dX9_expression_226 q1924 (Or.inl rfl) (fun v2 => ?_)
        refine zst_ (gj_iconst (pc := 229) dX9_expression_229 (by decide)) ?_
        refine zst_ (gj_isub (pc := 230) dX9_expression_230) ?_
        refine gb_put (pc := 231) fl942 fr942 dX9_expression_231 q1924 (Or.inl rfl) (fun σ3 => ?_)
        refine gb_iinc (pc := 234) 3 (fun y4 => [(3, zi y4), (0, zr x0), (1, zi x1), (2, zi x2), (4, zi x4), (5, zi x5), (6, zi x6), (7, zi x7)]) dX9_expression_234 rfl (by decide) (fun _ => rfl) (fun y4 => ?_)
        refine zst_ (gj_aload_n 1 (pc := 237) dX9_expression_237 rfl) ?_
        refine zst_ (gj_dup (pc := 238) dX9_expression_238 rfl) ?_
        refine gb_get (pc := 239) fl903 dX9_expression_239 q1885 (Or.inl rfl) (fun v5 => ?_)
        refine zst_ (gj_iconst (pc := 242) dX9_expression_242 (by decide)) ?_
        refine zst_ (gj_iadd (pc := 243) dX9_expression_243) ?_
        refine gb_put (pc := 244) fl903 fr903 dX9_expression_244 q1885 (Or.inl rfl) (fun σ6 => ?_)
        refine zst_ (gj_goto 438 (pc := 247) dX9_expression_247 (by decide)) ?_
        refine zst_ (gj_sub [1, 2, 3, 0, 4, 5] rfl) ?_
        exact fun h => w_X9_expression_438 x0 x1 x2 y4 x4 x5 σ6 h hk
  · refine zst_ (gj_iload 7 (pc := 104) dX9_expression_104 rfl) ?_
    refine gb_if (gj_if_lt 133 (pc := 106) dX9_expression_106 (by decide)) ?_ ?_
    · refine zst_ (gj_sub [0, 1, 2, 3, 5, 7] rfl) ?_
      exact fun h => w_X9_expression_133 x0 x1 x2 x3 x5 x7 σ h hk
    · refine zst_ (gj_aload_n 0 (pc := 109) dX9_expression_109 rfl) ?_
      refine gb_get (pc := 110) fl909 dX9_expression_110 q1891 (Or.inl rfl) (fun v7 => ?_)
      refine zst_ (gj_iload 7 (pc := 113) dX9_expression_113 rfl) ?_
      refine gb_iald (pc := 115) dX9_expression_115 (fun v8 => ?_)
      refine gb_if (gj_if_ge 129 (pc := 116) dX9_expression_116 (by decide)) ?_ ?_
      · refine zst_ (gj_sub [0, 1, 2, 3, 5, 7] rfl) ?_
        exact fun h => w_X9_expression_129 x0 x1 x2 x3 x5 x7 σ h hk
      · refine zst_ (gj_aload_n 0 (pc := 119) dX9_expression_119 rfl) ?_
        refine gb_get (pc := 120) fl910 dX9_expression_120 q1892 (Or.inl rfl) (fun v9 => ?_)
        refine zst_ (gj_iload 7 (pc := 123) dX9_expression_123 rfl) ?_
        refine gb_iald (pc := 125) dX9_expression_125 (fun v10 => ?_)
        refine gb_if (gj_if_lt 133 (pc := 126) dX9_expression_126 (by decide)) ?_ ?_
        · refine zst_ (gj_sub [0, 1, 2, 3, 5, 7] rfl) ?_
          exact fun h => w_X9_expression_133 x0 x1 x2 x3 x5 x7 σ h hk
        · refine zst_ (gj_sub [0, 1, 2, 3, 5, 7] rfl) ?_
          exact fun h => w_X9_expression_129 x0 x1 x2 x3 x5 x7 σ h hk
noncomputable def f_X9_expression_57 (x0 : Int) (σ : zM) : Option zO :=
  zgd (zis σ 10 x0) <|
  zci (f_X9_fail x0 σ) fun v1 σ2 =>
  zgd (z01 v1) <|
  some (0, zi v1, σ2)
theorem w_X9_expression_57 {g : zG} {lv : Nat} {out : zO} (x0 : Int) (σ : zM) {r : zO} (h : f_X9_expression_57 x0 σ = some r) (hk : (fun o : zO => o = out) r) : Gj g MX9_expression (lv + 2) 57 [(0, zr x0)] [] σ out := by
  revert h
  unfold f_X9_expression_57
  refine zst_ (gj_aload_n 0 (pc := 57) dX9_expression_57 rfl) ?_
  refine gb_gd (fun hb => ?_)
  refine gb_callI (pc := 58) (as := [zr x0]) (rest := []) (zCl.of (zLk_V (M := MX9_expression) (ci := 9) (r := (RX9, TX9, 84)) plX9_fail.1 rfl rfl (zisE hb).1 (zisE hb).2 dX9_expression_58 q2166 q2168 qs49 q2169) plX9_fail (Nat.le_of_ble_eq_true rfl) (fun h => c_X9_fail h)) (fun v1 σ2 => ?_)
  refine gb_gd (fun hb => ?_)
  intro h
  cases h
  have hk : (0, zi v1, σ2) = out := hk
  subst hk
  exact gj_ret (pc := 61) (t := .boolean) dX9_expression_61 rfl ⟨rfl, rfl⟩ (fun _ => z01E hb)
noncomputable def f_X9_expression_15_b (x0 x1 x2 x3 x4 x5 : Int) (σ : zM) : Option ((Int × Int × Int × Int × zM) ⊕ zO) :=
  (zgf σ 901 x0).bind fun v1 =>
  if v1 < x5 then
    (f_X9_expression_444 x0 σ).map (fun r => (.inr r))
  else
    zgd (zis σ 10 x0) <|
    zci (f_X9_here x0 σ) fun v2 σ3 =>
    zgd (zis σ3 10 x0) <|
    zci (f_X9_from x0 97 8 σ3) fun v4 σ5 =>
    if x4 = 0 then
      f_X9_expression_99 x0 x1 x2 x3 x4 x5 v2 v4 σ5
    else
      if v2 ≠ 40 then
        f_X9_expression_99 x0 x1 x2 x3 x4 x5 v2 v4 σ5
      else
        if x3 ≠ 4 then
          zlet (zadd x3 1) fun y6 =>
          (zgf σ5 943 x0).bind fun v7 =>
          (zgf σ5 942 x0).bind fun v8 =>
          (zpa σ5 101 v7 v8 21).bind fun σ9 =>
          (zgf σ9 942 x0).bind fun v10 =>
          (zpf σ9 942 x0 (zadd v10 1)).bind fun σ11 =>
          (zgf σ11 903 x0).bind fun v12 =>
          (zpf σ11 903 x0 (zadd v12 1)).bind fun σ13 =>
          f_X9_expression_438 x0 x1 x2 y6 x4 x5 σ13
        else
          (f_X9_expression_57 x0 σ5).map (fun r => (.inr r))
noncomputable def f_X9_expression_15 (x0 x1 x2 x3 x4 x5 : Int) (σ : zM) : Option zO :=
  zloop (fun s : Int × Int × Int × Int × zM => f_X9_expression_15_b x0 x1 s.1 s.2.1 s.2.2.1 s.2.2.2.1 s.2.2.2.2) (x2, x3, x4, x5, σ)
theorem w_X9_expression_15_b {g : zG} {lv : Nat} {out : zO} (x0 x1 x2 x3 x4 x5 : Int) (σ : zM) {r : ((Int × Int × Int × Int × zM) ⊕ zO)} (h : f_X9_expression_15_b x0 x1 x2 x3 x4 x5 σ = some r) (hk : (zKL (fun s : Int × Int × Int × Int × zM => Gj g MX9_expression (lv + 2) 15 [(0, zr x0), (1, zi x1), (2, zi s.1), (3, zi s.2.1), (4, zi s.2.2.1), (5, zi s.2.2.2.1)] [] s.2.2.2.2 out) (fun o : zO => o = out)) r) : Gj g MX9_expression (lv + 2) 15 [(0, zr x0), (1, zi x1), (2, zi x2), (3, zi x3), (4, zi x4), (5, zi x5)] [] σ out := by
  revert h
  unfold f_X9_expression_15_b
  refine zst_ (gj_iload 5 (pc := 15) dX9_expression_15 rfl) ?_
  refine zst_ (gj_aload_n 0 (pc := 17) dX9_expression_17 rfl) ?_
  refine gb_get (pc := 18) fl901 dX9_expression_18 q1883 (Or.inl rfl) (fun v1 => ?_)
  refine gb_if (gj_icmp_gt 444 (pc := 21) dX9_expression_21 (by decide)) ?_ ?_
  · refine zst_ (gj_sub [0] rfl) ?_
    intro h
    obtain ⟨r0, h0, rfl⟩ := zmE h
    exact w_X9_expression_444 x0 σ h0 hk
  · refine zst_ (gj_aload_n 0 (pc := 24) dX9_expression_24 rfl) ?_
    refine gb_gd (fun hb => ?_)
    refine gb_callI (pc := 25) (as := [zr x0]) (rest := []) (zCl.of (zLk_V (M := MX9_expression) (ci := 9) (r := (RX9, TX9, 84)) plX9_here.1 rfl rfl (zisE hb).1 (zisE hb).2 dX9_expression_25 q2154 q2156 qs46 q2157) plX9_here (Nat.le_of_ble_eq_true rfl) (fun h => c_X9_here h)) (fun v2 σ3 => ?_)
    refine zst_ (gj_istore (pc := 28) (ls' := [(6, zi v2), (0, zr x0), (1, zi x1), (2, zi x2), (3, zi x3), (4, zi x4), (5, zi x5)]) dX9_expression_28 (by decide) rfl) ?_
    refine zst_ (gj_aload_n 1 (pc := 30) dX9_expression_30 rfl) ?_
    refine zst_ (gj_bipush (pc := 31) dX9_expression_31 ⟨rfl, by decide⟩) ?_
    refine zst_ (gj_bipush (pc := 33) dX9_expression_33 ⟨rfl, by decide⟩) ?_
    refine gb_gd (fun hb => ?_)
    refine gb_callI (pc := 35) (as := [zr x0, zi 97, zi 8]) (rest := []) (zCl.of (zLk_V (M := MX9_expression) (ci := 9) (r := (RX9, TX9, 84)) plX9_from.1 rfl rfl (zisE hb).1 (zisE hb).2 dX9_expression_35 q2162 q2164 qs48 q2165) plX9_from (Nat.le_of_ble_eq_true rfl) (fun h => c_X9_from h)) (fun v4 σ5 => ?_)
    refine zst_ (gj_istore (pc := 38) (ls' := [(7, zi v4), (6, zi v2), (0, zr x0), (1, zi x1), (2, zi x2), (3, zi x3), (4, zi x4), (5, zi x5)]) dX9_expression_38 (by decide) rfl) ?_
    refine zst_ (gj_iload 6 (pc := 40) dX9_expression_40 rfl) ?_
    refine gb_if (gj_if_eq 99 (pc := 42) dX9_expression_42 (by decide)) ?_ ?_
    · refine zst_ (gj_sub [2, 3, 4, 5, 6, 7, 1, 0] rfl) ?_
      exact fun h => w_X9_expression_99 x0 x1 x2 x3 x4 x5 v2 v4 σ5 h hk
    · refine zst_ (gj_iload 1 (pc := 45) dX9_expression_45 rfl) ?_
      refine zst_ (gj_bipush (pc := 47) dX9_expression_47 ⟨rfl, by decide⟩) ?_
      refine gb_if (gj_icmp_ne 99 (pc := 49) dX9_expression_49 (by decide)) ?_ ?_
      · refine zst_ (gj_sub [2, 3, 4, 5, 6, 7, 1, 0] rfl) ?_
        exact fun h => w_X9_expression_99 x0 x1 x2 x3 x4 x5 v2 v4 σ5 h hk
      · refine zst_ (gj_iload_n 5 (pc := 52) dX9_expression_52 rfl) ?_
        refine zst_ (gj_iconst (pc := 53) dX9_expression_53 (by decide)) ?_
        refine gb_if (gj_icmp_ne 62 (pc := 54) dX9_expression_54 (by decide)) ?_ ?_
        · refine gb_iinc (pc := 62) 5 (fun y6 => [(3, zi y6), (7, zi v4), (6, zi v2), (0, zr x0), (1, zi x1), (2, zi x2), (4, zi x4), (5, zi x5)]) dX9_expression_62 rfl (by decide) (fun _ => rfl) (fun y6 => ?_)
          refine zst_ (gj_aload_n 3 (pc := 65) dX9_expression_65 rfl) ?_
          refine gb_get (pc := 66) fl943 dX9_expression_66 q1925 (Or.inl rfl) (fun v7 => ?_)
          refine zst_ (gj_aload_n 3 (pc := 69) dX9_expression_69 rfl) ?_
          refine gb_get (pc := 70) fl942 dX9_expression_70 q1924 (Or.inl rfl) (fun v8 => ?_)
          refine zst_ (gj_bipush (pc := 73) dX9_expression_73 ⟨rfl, by decide⟩) ?_
          refine gb_iast (pc := 75) dX9_expression_75 (fun σ9 => ?_)
          refine zst_ (gj_aload_n 3 (pc := 76) dX9_expression_76 rfl) ?_
          refine zst_ (gj_dup (pc := 77) dX9_expression_77 rfl) ?_
          refine gb_get (pc := 78) fl942 dX9_expression_78 q1924 (Or.inl rfl) (fun v10 => ?_)
          refine zst_ (gj_iconst (pc := 81) dX9_expression_81 (by decide)) ?_
          refine zst_ (gj_iadd (pc := 82) dX9_expression_82) ?_
          refine gb_put (pc := 83) fl942 fr942 dX9_expression_83 q1924 (Or.inl rfl) (fun σ11 => ?_)
          refine zst_ (gj_aload_n 3 (pc := 86) dX9_expression_86 rfl) ?_
          refine zst_ (gj_dup (pc := 87) dX9_expression_87 rfl) ?_
          refine gb_get (pc := 88) fl903 dX9_expression_88 q1885 (Or.inl rfl) (fun v12 => ?_)
          refine zst_ (gj_iconst (pc := 91) dX9_expression_91 (by decide)) ?_
          refine zst_ (gj_iadd (pc := 92) dX9_expression_92) ?_
          refine gb_put (pc := 93) fl903 fr903 dX9_expression_93 q1885 (Or.inl rfl) (fun σ13 => ?_)
          refine zst_ (gj_goto 438 (pc := 96) dX9_expression_96 (by decide)) ?_
          refine zst_ (gj_sub [3, 4, 5, 0, 6, 7] rfl) ?_
          exact fun h => w_X9_expression_438 x0 x1 x2 y6 x4 x5 σ13 h hk
        · refine zst_ (gj_sub [2] rfl) ?_
          intro h
          obtain ⟨r0, h0, rfl⟩ := zmE h
          exact w_X9_expression_57 x0 σ5 h0 hk
theorem w_X9_expression_15 {g : zG} {lv : Nat} {out : zO} (x0 x1 x2 x3 x4 x5 : Int) (σ : zM) {r : zO} (h : f_X9_expression_15 x0 x1 x2 x3 x4 x5 σ = some r) (hk : (fun o : zO => o = out) r) : Gj g MX9_expression (lv + 2) 15 [(0, zr x0), (1, zi x1), (2, zi x2), (3, zi x3), (4, zi x4), (5, zi x5)] [] σ out :=
  gj_loop (P := (fun s : Int × Int × Int × Int × zM => Gj g MX9_expression (lv + 2) 15 [(0, zr x0), (1, zi x1), (2, zi s.1), (3, zi s.2.1), (4, zi s.2.2.1), (5, zi s.2.2.2.1)] [] s.2.2.2.2 out)) (fun s x hb hx => w_X9_expression_15_b x0 x1 s.1 s.2.1 s.2.2.1 s.2.2.2.1 s.2.2.2.2 hb hx) h hk
noncomputable def f_X9_expression (x0 x1 : Int) (σ : zM) : Option zO :=
  (zpf σ 942 x0 0).bind fun σ1 =>
  f_X9_expression_15 x0 x1 0 x1 1 0 σ1
theorem c_X9_expression {g : zG} {lv : Nat} {x0 x1 : Int} {σ : zM} {out : zO} (h : f_X9_expression x0 x1 σ = some out) : Cj g (lv + 2) MX9_expression [zr x0, zi x1] σ out := by
  refine cj_go (ls := [(0, zr x0), (1, zi x1)]) (by decide) (Nat.le_of_ble_eq_true rfl) rfl (zgen h (fun r hk => ?_))
  unfold f_X9_expression
  refine zst_ (gj_iconst (pc := 0) dX9_expression_0 (by decide)) ?_
  refine zst_ (gj_istore_n (pc := 1) (ls' := [(2, zi 0), (0, zr x0), (1, zi x1)]) dX9_expression_1 (by decide) rfl) ?_
  refine zst_ (gj_iload_n 2 (pc := 2) dX9_expression_2 rfl) ?_
  refine zst_ (gj_istore_n (pc := 3) (ls' := [(3, zi x1), (2, zi 0), (0, zr x0), (1, zi x1)]) dX9_expression_3 (by decide) rfl) ?_
  refine zst_ (gj_iconst (pc := 4) dX9_expression_4 (by decide)) ?_
  refine zst_ (gj_istore (pc := 5) (ls' := [(4, zi 1), (3, zi x1), (2, zi 0), (0, zr x0), (1, zi x1)]) dX9_expression_5 (by decide) rfl) ?_
  refine zst_ (gj_aload_n 3 (pc := 7) dX9_expression_7 rfl) ?_
  refine zst_ (gj_iconst (pc := 8) dX9_expression_8 (by decide)) ?_
  refine gb_put (pc := 9) fl942 fr942 dX9_expression_9 q1924 (Or.inl rfl) (fun σ1 => ?_)
  refine zst_ (gj_iconst (pc := 12) dX9_expression_12 (by decide)) ?_
  refine zst_ (gj_istore (pc := 13) (ls' := [(5, zi 0), (4, zi 1), (3, zi x1), (2, zi 0), (0, zr x0), (1, zi x1)]) dX9_expression_13 (by decide) rfl) ?_
  refine zst_ (gj_sub [4, 5, 3, 2, 1, 0] rfl) ?_
  exact fun h => w_X9_expression_15 x0 x1 0 x1 1 0 σ1 h hk
