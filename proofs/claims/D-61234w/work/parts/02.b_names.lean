set_option maxRecDepth 100000
/-! ExchangeTextLaw -/
def RX0 : String := "ExchangeTextLaw"
abbrev cX0_say : ByteArray := method_3_code
def yX0_say : MethodName := ⟨RX0, "say", "(LExchangeText;J[J)I"⟩
abbrev cX0_trim : ByteArray := method_4_code
def yX0_trim : MethodName := ⟨RX0, "trim", "(LExchangeText;I[J)I"⟩
abbrev cX0_charAt : ByteArray := method_5_code
def yX0_charAt : MethodName := ⟨RX0, "charAt", "(LExchangeText;I[J)I"⟩
abbrev cX0_line : ByteArray := method_6_code
def yX0_line : MethodName := ⟨RX0, "line", "(LExchangeText;I[J)I"⟩
abbrev cX0_told : ByteArray := method_7_code
def yX0_told : MethodName := ⟨RX0, "told", "(LExchangeText;II[J)I"⟩
abbrev cX0_argument : ByteArray := method_8_code
def yX0_argument : MethodName := ⟨RX0, "argument", "(LExchangeText;III[J)I"⟩
abbrev cX0_item : ByteArray := method_9_code
def yX0_item : MethodName := ⟨RX0, "item", "(LExchangeText;III[J)I"⟩
abbrev cX0_set : ByteArray := method_10_code
def yX0_set : MethodName := ⟨RX0, "set", "(LExchangeText;III[J)I"⟩
abbrev cX0_wrong : ByteArray := method_11_code
def yX0_wrong : MethodName := ⟨RX0, "wrong", "(LExchangeText;II[J)I"⟩
abbrev cX0_from : ByteArray := method_12_code
def yX0_from : MethodName := ⟨RX0, "from", "(LExchangeText;II[J)I"⟩
abbrev cX0_ring : ByteArray := method_13_code
def yX0_ring : MethodName := ⟨RX0, "ring", "(LExchangeText;I[J)I"⟩
abbrev cX0_place : ByteArray := method_14_code
def yX0_place : MethodName := ⟨RX0, "place", "(LExchangeText;II[J)I"⟩
abbrev cX0_alike : ByteArray := method_15_code
def yX0_alike : MethodName := ⟨RX0, "alike", "(LExchangeText;II[J)I"⟩
abbrev cX0_differs : ByteArray := method_16_code
def yX0_differs : MethodName := ⟨RX0, "differs", "(LExchangeText;II[J)I"⟩
abbrev cX0_count : ByteArray := method_17_code
def yX0_count : MethodName := ⟨RX0, "count", "(LExchangeText;I[J)I"⟩
theorem q59 : (Jvm.Cond.initialized "ExchangeTextLaw") ∈ lw_all := lw_g (lw_at lw_m1 0 rfl) rfl
theorem q105 : (Jvm.Cond.classLink "ExchangeTextLaw" (8 : Nat) "ExchangeText") ∈ lw_all := lw_g (lw_at lw_m1 46 rfl) rfl
theorem q107 : (Jvm.Cond.methodLink "ExchangeTextLaw" (64 : Nat) ({ cls := "ExchangeText", name := "<init>", desc := "()V" } : Jvm.MethodName)) ∈ lw_all := lw_g (lw_at lw_m1 48 rfl) rfl
theorem q222 : (Jvm.Cond.methodLink "ExchangeTextLaw" (87 : Nat) ({ cls := "ExchangeText", name := "schema", desc := "()I" } : Jvm.MethodName)) ∈ lw_all := lw_g (lw_at lw_m1 163 rfl) rfl
theorem q916 : (Jvm.Cond.methodLink "ExchangeTextLaw" (91 : Nat) ({ cls := "ExchangeText", name := "read", desc := "()I" } : Jvm.MethodName)) ∈ lw_all := lw_g (lw_at lw_m4 137 rfl) rfl
theorem q1415 : (Jvm.Cond.methodLink "ExchangeTextLaw" (95 : Nat) ({ cls := "ExchangeText", name := "write", desc := "()I" } : Jvm.MethodName)) ∈ lw_all := lw_g (lw_at lw_m6 156 rfl) rfl
theorem q1617 : (Jvm.Cond.methodLink "ExchangeTextLaw" (99 : Nat) ({ cls := "ExchangeText", name := "keep", desc := "()I" } : Jvm.MethodName)) ∈ lw_all := lw_g (lw_at lw_m7 118 rfl) rfl
theorem q1666 : (Jvm.Cond.methodLink "ExchangeTextLaw" (135 : Nat) ({ cls := "ExchangeText", name := "join", desc := "()I" } : Jvm.MethodName)) ∈ lw_all := lw_g (lw_at lw_m7 167 rfl) rfl
theorem q1704 : (Jvm.Cond.methodLink "ExchangeTextLaw" (70 : Nat) ({ cls := "ExchangeTextLaw", name := "say", desc := "(LExchangeText;J[J)I" } : Jvm.MethodName)) ∈ lw_all := lw_g (lw_at lw_m7 205 rfl) rfl
theorem q1705 : (Jvm.Cond.static ({ cls := "ExchangeTextLaw", name := "say", desc := "(LExchangeText;J[J)I" } : Jvm.MethodName)) ∈ lw_all := lw_g (lw_at lw_m7 206 rfl) rfl
theorem q1706 : (Jvm.Cond.codeWith ({ cls := "ExchangeTextLaw", name := "say", desc := "(LExchangeText;J[J)I" } : Jvm.MethodName) method_3_code (5 : Nat) (Option.some Jvm.ClassFile.FieldType.int) [((0 : Nat), (9 : Nat), (12 : Nat), (13 : Nat)), ((0 : Nat), (9 : Nat), (16 : Nat), (15 : Nat))]) ∈ lw_all := lw_g (lw_at lw_m7 207 rfl) rfl
theorem q1707 : (Jvm.Cond.classLink "ExchangeTextLaw" (13 : Nat) "java/lang/IllegalArgumentException") ∈ lw_all := lw_g (lw_at lw_m7 208 rfl) rfl
theorem q1708 : (Jvm.Cond.classLink "ExchangeTextLaw" (15 : Nat) "java/lang/IllegalStateException") ∈ lw_all := lw_g (lw_at lw_m7 209 rfl) rfl
theorem q1709 : (Jvm.Cond.methodLink "ExchangeTextLaw" (7 : Nat) ({ cls := "ExchangeText", name := "say", desc := "(J)I" } : Jvm.MethodName)) ∈ lw_all := lw_g (lw_at lw_m7 210 rfl) rfl
theorem q1743 : (Jvm.Cond.methodLink "ExchangeTextLaw" (80 : Nat) ({ cls := "ExchangeTextLaw", name := "trim", desc := "(LExchangeText;I[J)I" } : Jvm.MethodName)) ∈ lw_all := lw_g (lw_at lw_m8 4 rfl) rfl
theorem q1744 : (Jvm.Cond.static ({ cls := "ExchangeTextLaw", name := "trim", desc := "(LExchangeText;I[J)I" } : Jvm.MethodName)) ∈ lw_all := lw_g (lw_at lw_m8 5 rfl) rfl
theorem q1745 : (Jvm.Cond.codeWith ({ cls := "ExchangeTextLaw", name := "trim", desc := "(LExchangeText;I[J)I" } : Jvm.MethodName) method_4_code (4 : Nat) (Option.some Jvm.ClassFile.FieldType.int) [((0 : Nat), (9 : Nat), (12 : Nat), (13 : Nat))]) ∈ lw_all := lw_g (lw_at lw_m8 6 rfl) rfl
theorem q1746 : (Jvm.Cond.methodLink "ExchangeTextLaw" (17 : Nat) ({ cls := "ExchangeText", name := "trim", desc := "(I)I" } : Jvm.MethodName)) ∈ lw_all := lw_g (lw_at lw_m8 7 rfl) rfl
theorem q1750 : (Jvm.Cond.methodLink "ExchangeTextLaw" (84 : Nat) ({ cls := "ExchangeTextLaw", name := "charAt", desc := "(LExchangeText;I[J)I" } : Jvm.MethodName)) ∈ lw_all := lw_g (lw_at lw_m8 11 rfl) rfl
theorem q1751 : (Jvm.Cond.static ({ cls := "ExchangeTextLaw", name := "charAt", desc := "(LExchangeText;I[J)I" } : Jvm.MethodName)) ∈ lw_all := lw_g (lw_at lw_m8 12 rfl) rfl
theorem q1752 : (Jvm.Cond.codeWith ({ cls := "ExchangeTextLaw", name := "charAt", desc := "(LExchangeText;I[J)I" } : Jvm.MethodName) method_5_code (4 : Nat) (Option.some Jvm.ClassFile.FieldType.int) [((0 : Nat), (9 : Nat), (12 : Nat), (13 : Nat))]) ∈ lw_all := lw_g (lw_at lw_m8 13 rfl) rfl
theorem q1753 : (Jvm.Cond.methodLink "ExchangeTextLaw" (21 : Nat) ({ cls := "ExchangeText", name := "charAt", desc := "(I)I" } : Jvm.MethodName)) ∈ lw_all := lw_g (lw_at lw_m8 14 rfl) rfl
theorem q1758 : (Jvm.Cond.methodLink "ExchangeTextLaw" (103 : Nat) ({ cls := "ExchangeTextLaw", name := "line", desc := "(LExchangeText;I[J)I" } : Jvm.MethodName)) ∈ lw_all := lw_g (lw_at lw_m8 19 rfl) rfl
theorem q1759 : (Jvm.Cond.static ({ cls := "ExchangeTextLaw", name := "line", desc := "(LExchangeText;I[J)I" } : Jvm.MethodName)) ∈ lw_all := lw_g (lw_at lw_m8 20 rfl) rfl
theorem q1760 : (Jvm.Cond.codeWith ({ cls := "ExchangeTextLaw", name := "line", desc := "(LExchangeText;I[J)I" } : Jvm.MethodName) method_6_code (4 : Nat) (Option.some Jvm.ClassFile.FieldType.int) [((0 : Nat), (9 : Nat), (12 : Nat), (13 : Nat))]) ∈ lw_all := lw_g (lw_at lw_m8 21 rfl) rfl
theorem q1761 : (Jvm.Cond.methodLink "ExchangeTextLaw" (24 : Nat) ({ cls := "ExchangeText", name := "line", desc := "(I)I" } : Jvm.MethodName)) ∈ lw_all := lw_g (lw_at lw_m8 22 rfl) rfl
theorem q1765 : (Jvm.Cond.methodLink "ExchangeTextLaw" (106 : Nat) ({ cls := "ExchangeTextLaw", name := "told", desc := "(LExchangeText;II[J)I" } : Jvm.MethodName)) ∈ lw_all := lw_g (lw_at lw_m8 26 rfl) rfl
theorem q1766 : (Jvm.Cond.static ({ cls := "ExchangeTextLaw", name := "told", desc := "(LExchangeText;II[J)I" } : Jvm.MethodName)) ∈ lw_all := lw_g (lw_at lw_m8 27 rfl) rfl
theorem q1767 : (Jvm.Cond.codeWith ({ cls := "ExchangeTextLaw", name := "told", desc := "(LExchangeText;II[J)I" } : Jvm.MethodName) method_7_code (5 : Nat) (Option.some Jvm.ClassFile.FieldType.int) [((0 : Nat), (10 : Nat), (13 : Nat), (13 : Nat))]) ∈ lw_all := lw_g (lw_at lw_m8 28 rfl) rfl
theorem q1768 : (Jvm.Cond.methodLink "ExchangeTextLaw" (27 : Nat) ({ cls := "ExchangeText", name := "told", desc := "(II)I" } : Jvm.MethodName)) ∈ lw_all := lw_g (lw_at lw_m8 29 rfl) rfl
theorem q1785 : (Jvm.Cond.methodLink "ExchangeTextLaw" (110 : Nat) ({ cls := "ExchangeTextLaw", name := "argument", desc := "(LExchangeText;III[J)I" } : Jvm.MethodName)) ∈ lw_all := lw_g (lw_at lw_m8 46 rfl) rfl
theorem q1786 : (Jvm.Cond.static ({ cls := "ExchangeTextLaw", name := "argument", desc := "(LExchangeText;III[J)I" } : Jvm.MethodName)) ∈ lw_all := lw_g (lw_at lw_m8 47 rfl) rfl
theorem q1787 : (Jvm.Cond.codeWith ({ cls := "ExchangeTextLaw", name := "argument", desc := "(LExchangeText;III[J)I" } : Jvm.MethodName) method_8_code (6 : Nat) (Option.some Jvm.ClassFile.FieldType.int) [((0 : Nat), (12 : Nat), (15 : Nat), (13 : Nat))]) ∈ lw_all := lw_g (lw_at lw_m8 48 rfl) rfl
theorem q1788 : (Jvm.Cond.methodLink "ExchangeTextLaw" (31 : Nat) ({ cls := "ExchangeText", name := "argument", desc := "(III)I" } : Jvm.MethodName)) ∈ lw_all := lw_g (lw_at lw_m8 49 rfl) rfl
theorem q1809 : (Jvm.Cond.methodLink "ExchangeTextLaw" (114 : Nat) ({ cls := "ExchangeTextLaw", name := "item", desc := "(LExchangeText;III[J)I" } : Jvm.MethodName)) ∈ lw_all := lw_g (lw_at lw_m8 70 rfl) rfl
theorem q1810 : (Jvm.Cond.static ({ cls := "ExchangeTextLaw", name := "item", desc := "(LExchangeText;III[J)I" } : Jvm.MethodName)) ∈ lw_all := lw_g (lw_at lw_m8 71 rfl) rfl
theorem q1811 : (Jvm.Cond.codeWith ({ cls := "ExchangeTextLaw", name := "item", desc := "(LExchangeText;III[J)I" } : Jvm.MethodName) method_9_code (6 : Nat) (Option.some Jvm.ClassFile.FieldType.int) [((0 : Nat), (12 : Nat), (15 : Nat), (13 : Nat))]) ∈ lw_all := lw_g (lw_at lw_m8 72 rfl) rfl
theorem q1812 : (Jvm.Cond.methodLink "ExchangeTextLaw" (35 : Nat) ({ cls := "ExchangeText", name := "item", desc := "(III)I" } : Jvm.MethodName)) ∈ lw_all := lw_g (lw_at lw_m8 73 rfl) rfl
theorem q1820 : (Jvm.Cond.methodLink "ExchangeTextLaw" (117 : Nat) ({ cls := "ExchangeTextLaw", name := "set", desc := "(LExchangeText;III[J)I" } : Jvm.MethodName)) ∈ lw_all := lw_g (lw_at lw_m8 81 rfl) rfl
theorem q1821 : (Jvm.Cond.static ({ cls := "ExchangeTextLaw", name := "set", desc := "(LExchangeText;III[J)I" } : Jvm.MethodName)) ∈ lw_all := lw_g (lw_at lw_m8 82 rfl) rfl
theorem q1822 : (Jvm.Cond.codeWith ({ cls := "ExchangeTextLaw", name := "set", desc := "(LExchangeText;III[J)I" } : Jvm.MethodName) method_10_code (6 : Nat) (Option.some Jvm.ClassFile.FieldType.int) [((0 : Nat), (12 : Nat), (15 : Nat), (13 : Nat))]) ∈ lw_all := lw_g (lw_at lw_m8 83 rfl) rfl
theorem q1823 : (Jvm.Cond.methodLink "ExchangeTextLaw" (38 : Nat) ({ cls := "ExchangeText", name := "set", desc := "(III)I" } : Jvm.MethodName)) ∈ lw_all := lw_g (lw_at lw_m8 84 rfl) rfl
theorem q1834 : (Jvm.Cond.methodLink "ExchangeTextLaw" (120 : Nat) ({ cls := "ExchangeTextLaw", name := "wrong", desc := "(LExchangeText;II[J)I" } : Jvm.MethodName)) ∈ lw_all := lw_g (lw_at lw_m8 95 rfl) rfl
theorem q1835 : (Jvm.Cond.static ({ cls := "ExchangeTextLaw", name := "wrong", desc := "(LExchangeText;II[J)I" } : Jvm.MethodName)) ∈ lw_all := lw_g (lw_at lw_m8 96 rfl) rfl
theorem q1836 : (Jvm.Cond.codeWith ({ cls := "ExchangeTextLaw", name := "wrong", desc := "(LExchangeText;II[J)I" } : Jvm.MethodName) method_11_code (5 : Nat) (Option.some Jvm.ClassFile.FieldType.int) [((0 : Nat), (10 : Nat), (13 : Nat), (13 : Nat))]) ∈ lw_all := lw_g (lw_at lw_m8 97 rfl) rfl
theorem q1837 : (Jvm.Cond.methodLink "ExchangeTextLaw" (41 : Nat) ({ cls := "ExchangeText", name := "wrong", desc := "(II)I" } : Jvm.MethodName)) ∈ lw_all := lw_g (lw_at lw_m8 98 rfl) rfl
theorem q1858 : (Jvm.Cond.methodLink "ExchangeTextLaw" (123 : Nat) ({ cls := "ExchangeTextLaw", name := "from", desc := "(LExchangeText;II[J)I" } : Jvm.MethodName)) ∈ lw_all := lw_g (lw_at lw_m8 119 rfl) rfl
theorem q1859 : (Jvm.Cond.static ({ cls := "ExchangeTextLaw", name := "from", desc := "(LExchangeText;II[J)I" } : Jvm.MethodName)) ∈ lw_all := lw_g (lw_at lw_m8 120 rfl) rfl
theorem q1860 : (Jvm.Cond.codeWith ({ cls := "ExchangeTextLaw", name := "from", desc := "(LExchangeText;II[J)I" } : Jvm.MethodName) method_12_code (5 : Nat) (Option.some Jvm.ClassFile.FieldType.int) [((0 : Nat), (10 : Nat), (13 : Nat), (13 : Nat))]) ∈ lw_all := lw_g (lw_at lw_m8 121 rfl) rfl
theorem q1861 : (Jvm.Cond.methodLink "ExchangeTextLaw" (44 : Nat) ({ cls := "ExchangeText", name := "from", desc := "(II)I" } : Jvm.MethodName)) ∈ lw_all := lw_g (lw_at lw_m8 122 rfl) rfl
theorem q1869 : (Jvm.Cond.methodLink "ExchangeTextLaw" (126 : Nat) ({ cls := "ExchangeTextLaw", name := "ring", desc := "(LExchangeText;I[J)I" } : Jvm.MethodName)) ∈ lw_all := lw_g (lw_at lw_m8 130 rfl) rfl
theorem q1870 : (Jvm.Cond.static ({ cls := "ExchangeTextLaw", name := "ring", desc := "(LExchangeText;I[J)I" } : Jvm.MethodName)) ∈ lw_all := lw_g (lw_at lw_m8 131 rfl) rfl
theorem q1871 : (Jvm.Cond.codeWith ({ cls := "ExchangeTextLaw", name := "ring", desc := "(LExchangeText;I[J)I" } : Jvm.MethodName) method_13_code (4 : Nat) (Option.some Jvm.ClassFile.FieldType.int) [((0 : Nat), (9 : Nat), (12 : Nat), (13 : Nat))]) ∈ lw_all := lw_g (lw_at lw_m8 132 rfl) rfl
theorem q1872 : (Jvm.Cond.methodLink "ExchangeTextLaw" (47 : Nat) ({ cls := "ExchangeText", name := "ring", desc := "(I)I" } : Jvm.MethodName)) ∈ lw_all := lw_g (lw_at lw_m8 133 rfl) rfl
theorem q1892 : (Jvm.Cond.methodLink "ExchangeTextLaw" (129 : Nat) ({ cls := "ExchangeTextLaw", name := "place", desc := "(LExchangeText;II[J)I" } : Jvm.MethodName)) ∈ lw_all := lw_g (lw_at lw_m8 153 rfl) rfl
theorem q1893 : (Jvm.Cond.static ({ cls := "ExchangeTextLaw", name := "place", desc := "(LExchangeText;II[J)I" } : Jvm.MethodName)) ∈ lw_all := lw_g (lw_at lw_m8 154 rfl) rfl
theorem q1894 : (Jvm.Cond.codeWith ({ cls := "ExchangeTextLaw", name := "place", desc := "(LExchangeText;II[J)I" } : Jvm.MethodName) method_14_code (5 : Nat) (Option.some Jvm.ClassFile.FieldType.int) [((0 : Nat), (9 : Nat), (12 : Nat), (13 : Nat))]) ∈ lw_all := lw_g (lw_at lw_m8 155 rfl) rfl
theorem q1895 : (Jvm.Cond.methodLink "ExchangeTextLaw" (50 : Nat) ({ cls := "ExchangeText", name := "place", desc := "(II)J" } : Jvm.MethodName)) ∈ lw_all := lw_g (lw_at lw_m8 156 rfl) rfl
theorem q1907 : (Jvm.Cond.methodLink "ExchangeTextLaw" (132 : Nat) ({ cls := "ExchangeTextLaw", name := "alike", desc := "(LExchangeText;II[J)I" } : Jvm.MethodName)) ∈ lw_all := lw_g (lw_at lw_m8 168 rfl) rfl
theorem q1908 : (Jvm.Cond.static ({ cls := "ExchangeTextLaw", name := "alike", desc := "(LExchangeText;II[J)I" } : Jvm.MethodName)) ∈ lw_all := lw_g (lw_at lw_m8 169 rfl) rfl
theorem q1909 : (Jvm.Cond.codeWith ({ cls := "ExchangeTextLaw", name := "alike", desc := "(LExchangeText;II[J)I" } : Jvm.MethodName) method_15_code (5 : Nat) (Option.some Jvm.ClassFile.FieldType.int) [((0 : Nat), (17 : Nat), (20 : Nat), (13 : Nat))]) ∈ lw_all := lw_g (lw_at lw_m8 170 rfl) rfl
theorem q1910 : (Jvm.Cond.methodLink "ExchangeTextLaw" (54 : Nat) ({ cls := "ExchangeText", name := "alike", desc := "(II)Z" } : Jvm.MethodName)) ∈ lw_all := lw_g (lw_at lw_m8 171 rfl) rfl
theorem q1914 : (Jvm.Cond.methodLink "ExchangeTextLaw" (139 : Nat) ({ cls := "ExchangeTextLaw", name := "differs", desc := "(LExchangeText;II[J)I" } : Jvm.MethodName)) ∈ lw_all := lw_g (lw_at lw_m8 175 rfl) rfl
theorem q1915 : (Jvm.Cond.static ({ cls := "ExchangeTextLaw", name := "differs", desc := "(LExchangeText;II[J)I" } : Jvm.MethodName)) ∈ lw_all := lw_g (lw_at lw_m8 176 rfl) rfl
theorem q1916 : (Jvm.Cond.codeWith ({ cls := "ExchangeTextLaw", name := "differs", desc := "(LExchangeText;II[J)I" } : Jvm.MethodName) method_16_code (5 : Nat) (Option.some Jvm.ClassFile.FieldType.int) [((0 : Nat), (10 : Nat), (13 : Nat), (13 : Nat))]) ∈ lw_all := lw_g (lw_at lw_m8 177 rfl) rfl
theorem q1917 : (Jvm.Cond.methodLink "ExchangeTextLaw" (58 : Nat) ({ cls := "ExchangeText", name := "differs", desc := "(II)I" } : Jvm.MethodName)) ∈ lw_all := lw_g (lw_at lw_m8 178 rfl) rfl
theorem q1932 : (Jvm.Cond.methodLink "ExchangeTextLaw" (142 : Nat) ({ cls := "ExchangeTextLaw", name := "count", desc := "(LExchangeText;I[J)I" } : Jvm.MethodName)) ∈ lw_all := lw_g (lw_at lw_m8 193 rfl) rfl
theorem q1933 : (Jvm.Cond.static ({ cls := "ExchangeTextLaw", name := "count", desc := "(LExchangeText;I[J)I" } : Jvm.MethodName)) ∈ lw_all := lw_g (lw_at lw_m8 194 rfl) rfl
theorem q1934 : (Jvm.Cond.codeWith ({ cls := "ExchangeTextLaw", name := "count", desc := "(LExchangeText;I[J)I" } : Jvm.MethodName) method_17_code (4 : Nat) (Option.some Jvm.ClassFile.FieldType.int) [((0 : Nat), (9 : Nat), (12 : Nat), (13 : Nat))]) ∈ lw_all := lw_g (lw_at lw_m8 195 rfl) rfl
theorem q1935 : (Jvm.Cond.methodLink "ExchangeTextLaw" (61 : Nat) ({ cls := "ExchangeText", name := "count", desc := "(I)I" } : Jvm.MethodName)) ∈ lw_all := lw_g (lw_at lw_m8 196 rfl) rfl
theorem q1939 : (Jvm.Cond.classLink "ExchangeTextLaw" (65 : Nat) "ExchangeTextModel") ∈ lw_all := lw_g (lw_at lw_m8 200 rfl) rfl
theorem q1941 : (Jvm.Cond.methodLink "ExchangeTextLaw" (67 : Nat) ({ cls := "ExchangeTextModel", name := "<init>", desc := "()V" } : Jvm.MethodName)) ∈ lw_all := lw_g (lw_at lw_m8 202 rfl) rfl
theorem q2022 : (Jvm.Cond.methodLink "ExchangeTextLaw" (76 : Nat) ({ cls := "ExchangeTextModel", name := "thrown", desc := "()I" } : Jvm.MethodName)) ∈ lw_all := lw_g (lw_at lw_m9 43 rfl) rfl
theorem q2026 : (Jvm.Cond.methodLink "ExchangeTextLaw" (75 : Nat) ({ cls := "ExchangeTextModel", name := "say", desc := "(J)I" } : Jvm.MethodName)) ∈ lw_all := lw_g (lw_at lw_m9 47 rfl) rfl
theorem q2035 : (Jvm.Cond.methodLink "ExchangeTextLaw" (83 : Nat) ({ cls := "ExchangeTextModel", name := "trim", desc := "(I)I" } : Jvm.MethodName)) ∈ lw_all := lw_g (lw_at lw_m9 56 rfl) rfl
theorem q2039 : (Jvm.Cond.methodLink "ExchangeTextLaw" (86 : Nat) ({ cls := "ExchangeTextModel", name := "charAt", desc := "(I)I" } : Jvm.MethodName)) ∈ lw_all := lw_g (lw_at lw_m9 60 rfl) rfl
theorem q2043 : (Jvm.Cond.methodLink "ExchangeTextLaw" (90 : Nat) ({ cls := "ExchangeTextModel", name := "schema", desc := "()I" } : Jvm.MethodName)) ∈ lw_all := lw_g (lw_at lw_m9 64 rfl) rfl
theorem q2076 : (Jvm.Cond.methodLink "ExchangeTextLaw" (94 : Nat) ({ cls := "ExchangeTextModel", name := "read", desc := "()I" } : Jvm.MethodName)) ∈ lw_all := lw_g (lw_at lw_m9 97 rfl) rfl
theorem q2126 : (Jvm.Cond.methodLink "ExchangeTextLaw" (98 : Nat) ({ cls := "ExchangeTextModel", name := "write", desc := "()I" } : Jvm.MethodName)) ∈ lw_all := lw_g (lw_at lw_m9 147 rfl) rfl
theorem q2142 : (Jvm.Cond.methodLink "ExchangeTextLaw" (102 : Nat) ({ cls := "ExchangeTextModel", name := "keep", desc := "()I" } : Jvm.MethodName)) ∈ lw_all := lw_g (lw_at lw_m9 163 rfl) rfl
theorem q2146 : (Jvm.Cond.methodLink "ExchangeTextLaw" (105 : Nat) ({ cls := "ExchangeTextModel", name := "line", desc := "(I)I" } : Jvm.MethodName)) ∈ lw_all := lw_g (lw_at lw_m9 167 rfl) rfl
theorem q2150 : (Jvm.Cond.methodLink "ExchangeTextLaw" (109 : Nat) ({ cls := "ExchangeTextModel", name := "told", desc := "(II)I" } : Jvm.MethodName)) ∈ lw_all := lw_g (lw_at lw_m9 171 rfl) rfl
theorem q2178 : (Jvm.Cond.methodLink "ExchangeTextLaw" (113 : Nat) ({ cls := "ExchangeTextModel", name := "argument", desc := "(III)I" } : Jvm.MethodName)) ∈ lw_all := lw_g (lw_at lw_m9 199 rfl) rfl
theorem q2186 : (Jvm.Cond.methodLink "ExchangeTextLaw" (116 : Nat) ({ cls := "ExchangeTextModel", name := "item", desc := "(III)I" } : Jvm.MethodName)) ∈ lw_all := lw_g (lw_at lw_m9 207 rfl) rfl
theorem q2190 : (Jvm.Cond.methodLink "ExchangeTextLaw" (119 : Nat) ({ cls := "ExchangeTextModel", name := "set", desc := "(III)I" } : Jvm.MethodName)) ∈ lw_all := lw_g (lw_at lw_m9 211 rfl) rfl
theorem q2196 : (Jvm.Cond.methodLink "ExchangeTextLaw" (122 : Nat) ({ cls := "ExchangeTextModel", name := "wrong", desc := "(II)I" } : Jvm.MethodName)) ∈ lw_all := lw_g (lw_at lw_m9 217 rfl) rfl
theorem q2204 : (Jvm.Cond.methodLink "ExchangeTextLaw" (125 : Nat) ({ cls := "ExchangeTextModel", name := "from", desc := "(II)I" } : Jvm.MethodName)) ∈ lw_all := lw_g (lw_at lw_m9 225 rfl) rfl
theorem q2208 : (Jvm.Cond.methodLink "ExchangeTextLaw" (128 : Nat) ({ cls := "ExchangeTextModel", name := "ring", desc := "(I)I" } : Jvm.MethodName)) ∈ lw_all := lw_g (lw_at lw_m9 229 rfl) rfl
theorem q2216 : (Jvm.Cond.methodLink "ExchangeTextLaw" (131 : Nat) ({ cls := "ExchangeTextModel", name := "place", desc := "(II)J" } : Jvm.MethodName)) ∈ lw_all := lw_g (lw_at lw_m9 237 rfl) rfl
theorem q2225 : (Jvm.Cond.methodLink "ExchangeTextLaw" (134 : Nat) ({ cls := "ExchangeTextModel", name := "alike", desc := "(II)Z" } : Jvm.MethodName)) ∈ lw_all := lw_g (lw_at lw_m10 6 rfl) rfl
theorem q2241 : (Jvm.Cond.methodLink "ExchangeTextLaw" (138 : Nat) ({ cls := "ExchangeTextModel", name := "join", desc := "()I" } : Jvm.MethodName)) ∈ lw_all := lw_g (lw_at lw_m10 22 rfl) rfl
theorem q2245 : (Jvm.Cond.methodLink "ExchangeTextLaw" (141 : Nat) ({ cls := "ExchangeTextModel", name := "differs", desc := "(II)I" } : Jvm.MethodName)) ∈ lw_all := lw_g (lw_at lw_m10 26 rfl) rfl
theorem q2253 : (Jvm.Cond.methodLink "ExchangeTextLaw" (144 : Nat) ({ cls := "ExchangeTextModel", name := "count", desc := "(I)I" } : Jvm.MethodName)) ∈ lw_all := lw_g (lw_at lw_m10 34 rfl) rfl
theorem q2257 : (Jvm.Cond.constantLong "ExchangeTextLaw" (68 : Nat) (4294967295 : Int64)) ∈ lw_all := lw_g (lw_at lw_m10 38 rfl) rfl
/-! ExchangeText -/
def RX1 : String := "ExchangeText"
def TX1 : u_T := fun k => match k with
  | 0 => ("ExchangeText", "text", "Ljava/lang/StringBuilder;", true)
  | 1 => ("ExchangeText", "kinds", "Ljava/util/ArrayList;", false)
  | 2 => ("ExchangeText", "lines", "Ljava/util/TreeMap;", false)
  | _ => ("ExchangeText", "kept", "Ljava/util/TreeMap;", false)
def tyX1 : Nat → FieldType := fun k => match k with
  | 0 => .object "java/lang/StringBuilder"
  | 1 => .object "java/util/ArrayList"
  | 2 => .object "java/util/TreeMap"
  | _ => .object "java/util/TreeMap"
abbrev wsX10 : List Cond := u_ws RX1 TX1 4
theorem nmX1 : ∀ a, a < 4 → ∀ b, b < 4 → a ≠ b → (TX1 a).2.1 ≠ (TX1 b).2.1 := by decide +kernel
theorem tyX1_ok : ∀ k, k < 4 → parseFieldDescriptor (TX1 k).2.2.1 = some (tyX1 k) := by decide +kernel
abbrev cX1_init : ByteArray := prog_1_method_1_code
def yX1_init : MethodName := ⟨RX1, "<init>", "()V"⟩
abbrev cX1_schema : ByteArray := prog_1_method_6_code
def yX1_schema : MethodName := ⟨RX1, "schema", "()I"⟩
abbrev cX1_read : ByteArray := prog_1_method_7_code
def yX1_read : MethodName := ⟨RX1, "read", "()I"⟩
abbrev cX1_write : ByteArray := prog_1_method_8_code
def yX1_write : MethodName := ⟨RX1, "write", "()I"⟩
abbrev cX1_keep : ByteArray := prog_1_method_9_code
def yX1_keep : MethodName := ⟨RX1, "keep", "()I"⟩
abbrev cX1_join : ByteArray := prog_1_method_29_code
def yX1_join : MethodName := ⟨RX1, "join", "()I"⟩
abbrev cX1_least : ByteArray := prog_1_method_27_code
def yX1_least : MethodName := ⟨RX1, "least", "()[I"⟩
abbrev cX1_depths : ByteArray := prog_1_method_14_code
def yX1_depths : MethodName := ⟨RX1, "depths", "()[I"⟩
abbrev cX1_over : ByteArray := prog_1_method_15_code
def yX1_over : MethodName := ⟨RX1, "over", "(LExchangeText$Line;[I)I"⟩
abbrev cX1_say : ByteArray := prog_1_method_3_code
def yX1_say : MethodName := ⟨RX1, "say", "(J)I"⟩
abbrev cX1_need : ByteArray := prog_1_method_2_code
def yX1_need : MethodName := ⟨RX1, "need", "(Z)V"⟩
abbrev cX1_trim : ByteArray := prog_1_method_4_code
def yX1_trim : MethodName := ⟨RX1, "trim", "(I)I"⟩
abbrev cX1_charAt : ByteArray := prog_1_method_5_code
def yX1_charAt : MethodName := ⟨RX1, "charAt", "(I)I"⟩
abbrev cX1_line : ByteArray := prog_1_method_12_code
def yX1_line : MethodName := ⟨RX1, "line", "(I)I"⟩
abbrev cX1_told : ByteArray := prog_1_method_16_code
def yX1_told : MethodName := ⟨RX1, "told", "(II)I"⟩
abbrev cX1_lineOf : ByteArray := prog_1_method_10_code
def yX1_lineOf : MethodName := ⟨RX1, "lineOf", "(I)LExchangeText$Line;"⟩
abbrev cX1_kindOf : ByteArray := prog_1_method_13_code
def yX1_kindOf : MethodName := ⟨RX1, "kindOf", "(LExchangeText$Line;)I"⟩
abbrev cX1_argument : ByteArray := prog_1_method_17_code
def yX1_argument : MethodName := ⟨RX1, "argument", "(III)I"⟩
abbrev cX1_argumentOf : ByteArray := prog_1_method_11_code
def yX1_argumentOf : MethodName := ⟨RX1, "argumentOf", "(II)LExchangeText$Argument;"⟩
abbrev cX1_item : ByteArray := prog_1_method_18_code
def yX1_item : MethodName := ⟨RX1, "item", "(III)I"⟩
abbrev cX1_set : ByteArray := prog_1_method_19_code
def yX1_set : MethodName := ⟨RX1, "set", "(III)I"⟩
abbrev cX1_wrong : ByteArray := prog_1_method_21_code
def yX1_wrong : MethodName := ⟨RX1, "wrong", "(II)I"⟩
abbrev cX1_why : ByteArray := prog_1_method_20_code
def yX1_why : MethodName := ⟨RX1, "why", "(LExchangeText$Line;)I"⟩
abbrev cX1_from : ByteArray := prog_1_method_22_code
def yX1_from : MethodName := ⟨RX1, "from", "(II)I"⟩
abbrev cX1_ring : ByteArray := prog_1_method_25_code
def yX1_ring : MethodName := ⟨RX1, "ring", "(I)I"⟩
abbrev cX1_table : ByteArray := prog_1_method_23_code
def yX1_table : MethodName := ⟨RX1, "table", "()[LExchangeText$Line;"⟩
abbrev cX1_isOnRing : ByteArray := prog_1_method_24_code
def yX1_isOnRing : MethodName := ⟨RX1, "isOnRing", "(LExchangeText$Line;[LExchangeText$Line;Ljava/util/BitSet;[I)Z"⟩
abbrev cX1_place : ByteArray := prog_1_method_26_code
def yX1_place : MethodName := ⟨RX1, "place", "(II)J"⟩
abbrev cX1_alike : ByteArray := prog_1_method_28_code
def yX1_alike : MethodName := ⟨RX1, "alike", "(II)Z"⟩
abbrev cX1_differs : ByteArray := prog_1_method_30_code
def yX1_differs : MethodName := ⟨RX1, "differs", "(II)I"⟩
abbrev cX1_count : ByteArray := prog_1_method_31_code
def yX1_count : MethodName := ⟨RX1, "count", "(I)I"⟩
theorem q60 : (Jvm.Cond.initialized "ExchangeText") ∈ lw_all := lw_g (lw_at lw_m1 1 rfl) rfl
theorem q106 : (Jvm.Cond.instantiable "ExchangeText" (4 : Nat)) ∈ lw_all := lw_g (lw_at lw_m1 47 rfl) rfl
theorem q108 : (Jvm.Cond.instanceMethod ({ cls := "ExchangeText", name := "<init>", desc := "()V" } : Jvm.MethodName)) ∈ lw_all := lw_g (lw_at lw_m1 49 rfl) rfl
theorem q109 : (Jvm.Cond.code ({ cls := "ExchangeText", name := "<init>", desc := "()V" } : Jvm.MethodName) prog_1_method_1_code (1 : Nat) (Option.none : Option Jvm.ClassFile.FieldType)) ∈ lw_all := lw_g (lw_at lw_m1 50 rfl) rfl
theorem q110 : (Jvm.Cond.methodLink "ExchangeText" (1 : Nat) ({ cls := "java/lang/Object", name := "<init>", desc := "()V" } : Jvm.MethodName)) ∈ lw_all := lw_g (lw_at lw_m1 51 rfl) rfl
theorem q113 : (Jvm.Cond.classLink "ExchangeText" (7 : Nat) "java/lang/StringBuilder") ∈ lw_all := lw_g (lw_at lw_m1 54 rfl) rfl
theorem q115 : (Jvm.Cond.methodLink "ExchangeText" (9 : Nat) ({ cls := "java/lang/StringBuilder", name := "<init>", desc := "()V" } : Jvm.MethodName)) ∈ lw_all := lw_g (lw_at lw_m1 56 rfl) rfl
theorem q146 : (Jvm.Cond.classLink "ExchangeText" (16 : Nat) "java/util/ArrayList") ∈ lw_all := lw_g (lw_at lw_m1 87 rfl) rfl
theorem q148 : (Jvm.Cond.methodLink "ExchangeText" (18 : Nat) ({ cls := "java/util/ArrayList", name := "<init>", desc := "()V" } : Jvm.MethodName)) ∈ lw_all := lw_g (lw_at lw_m1 89 rfl) rfl
theorem q175 : (Jvm.Cond.classLink "ExchangeText" (23 : Nat) "java/util/TreeMap") ∈ lw_all := lw_g (lw_at lw_m1 116 rfl) rfl
theorem q177 : (Jvm.Cond.methodLink "ExchangeText" (25 : Nat) ({ cls := "java/util/TreeMap", name := "<init>", desc := "()V" } : Jvm.MethodName)) ∈ lw_all := lw_g (lw_at lw_m1 118 rfl) rfl
theorem q209 : (Jvm.Cond.fieldLink "ExchangeText" (10 : Nat) "ExchangeText" "text" "Ljava/lang/StringBuilder;") ∈ lw_all := lw_g (lw_at lw_m1 150 rfl) rfl
theorem q210 : (Jvm.Cond.fieldLink "ExchangeText" (19 : Nat) "ExchangeText" "kinds" "Ljava/util/ArrayList;") ∈ lw_all := lw_g (lw_at lw_m1 151 rfl) rfl
theorem q211 : (Jvm.Cond.fieldLink "ExchangeText" (26 : Nat) "ExchangeText" "lines" "Ljava/util/TreeMap;") ∈ lw_all := lw_g (lw_at lw_m1 152 rfl) rfl
theorem q212 : (Jvm.Cond.fieldLink "ExchangeText" (30 : Nat) "ExchangeText" "kept" "Ljava/util/TreeMap;") ∈ lw_all := lw_g (lw_at lw_m1 153 rfl) rfl
theorem q213 : (Jvm.Cond.laysFinal "ExchangeText" "ExchangeText" "text" "Ljava/lang/StringBuilder;") ∈ lw_all := lw_g (lw_at lw_m1 154 rfl) rfl
theorem q214 : (Jvm.Cond.soleField "ExchangeText" "text") ∈ lw_all := lw_g (lw_at lw_m1 155 rfl) rfl
theorem q215 : (Jvm.Cond.lays "ExchangeText" "ExchangeText" "kinds" "Ljava/util/ArrayList;") ∈ lw_all := lw_g (lw_at lw_m1 156 rfl) rfl
theorem q216 : (Jvm.Cond.soleField "ExchangeText" "kinds") ∈ lw_all := lw_g (lw_at lw_m1 157 rfl) rfl
theorem q217 : (Jvm.Cond.lays "ExchangeText" "ExchangeText" "lines" "Ljava/util/TreeMap;") ∈ lw_all := lw_g (lw_at lw_m1 158 rfl) rfl
theorem q218 : (Jvm.Cond.soleField "ExchangeText" "lines") ∈ lw_all := lw_g (lw_at lw_m1 159 rfl) rfl
theorem q219 : (Jvm.Cond.lays "ExchangeText" "ExchangeText" "kept" "Ljava/util/TreeMap;") ∈ lw_all := lw_g (lw_at lw_m1 160 rfl) rfl
theorem q220 : (Jvm.Cond.soleField "ExchangeText" "kept") ∈ lw_all := lw_g (lw_at lw_m1 161 rfl) rfl
theorem q221 : (Jvm.Cond.superclass "ExchangeText" "java/lang/Object") ∈ lw_all := lw_g (lw_at lw_m1 162 rfl) rfl
theorem q223 : (Jvm.Cond.instanceMethod ({ cls := "ExchangeText", name := "schema", desc := "()I" } : Jvm.MethodName)) ∈ lw_all := lw_g (lw_at lw_m1 164 rfl) rfl
theorem q224 : (Jvm.Cond.selects "ExchangeText" ({ cls := "ExchangeText", name := "schema", desc := "()I" } : Jvm.MethodName) ({ cls := "ExchangeText", name := "schema", desc := "()I" } : Jvm.MethodName)) ∈ lw_all := lw_g (lw_at lw_m1 165 rfl) rfl
theorem q225 : (Jvm.Cond.codeWith ({ cls := "ExchangeText", name := "schema", desc := "()I" } : Jvm.MethodName) prog_1_method_6_code (4 : Nat) (Option.some Jvm.ClassFile.FieldType.int) [((20 : Nat), (40 : Nat), (43 : Nat), (78 : Nat))]) ∈ lw_all := lw_g (lw_at lw_m1 166 rfl) rfl
theorem q226 : (Jvm.Cond.classLink "ExchangeText" (78 : Nat) "ExchangeText$WrongPlace") ∈ lw_all := lw_g (lw_at lw_m1 167 rfl) rfl
theorem q227 : (Jvm.Cond.classLink "ExchangeText" (61 : Nat) "ExchangeText$Reader") ∈ lw_all := lw_g (lw_at lw_m1 168 rfl) rfl
theorem q229 : (Jvm.Cond.methodLink "ExchangeText" (63 : Nat) ({ cls := "ExchangeText$Reader", name := "<init>", desc := "(Ljava/lang/StringBuilder;)V" } : Jvm.MethodName)) ∈ lw_all := lw_g (lw_at lw_m1 170 rfl) rfl
theorem q240 : (Jvm.Cond.methodLink "ExchangeText" (66 : Nat) ({ cls := "ExchangeText$Reader", name := "isOver", desc := "()Z" } : Jvm.MethodName)) ∈ lw_all := lw_g (lw_at lw_m1 181 rfl) rfl
theorem q289 : (Jvm.Cond.methodLink "ExchangeText" (70 : Nat) ({ cls := "ExchangeText$Reader", name := "readKind", desc := "(Ljava/util/ArrayList;)LExchangeText$Kind;" } : Jvm.MethodName)) ∈ lw_all := lw_g (lw_at lw_m1 230 rfl) rfl
theorem q360 : (Jvm.Cond.fieldLink "ExchangeText" (80 : Nat) "ExchangeText$WrongPlace" "place" "I") ∈ lw_all := lw_g (lw_at lw_m2 61 rfl) rfl
theorem q640 : (Jvm.Cond.fieldLink "ExchangeText" (180 : Nat) "ExchangeText$Kind" "name" "Ljava/lang/String;") ∈ lw_all := lw_g (lw_at lw_m3 101 rfl) rfl
theorem q861 : (Jvm.Cond.selects "ExchangeText" ({ cls := "java/lang/Object", name := "getClass", desc := "()Ljava/lang/Class;" } : Jvm.MethodName) ({ cls := "java/lang/Object", name := "getClass", desc := "()Ljava/lang/Class;" } : Jvm.MethodName)) ∈ lw_all := lw_g (lw_at lw_m4 82 rfl) rfl
theorem q891 : (Jvm.Cond.methodLink "ExchangeText" (74 : Nat) ({ cls := "java/util/ArrayList", name := "add", desc := "(Ljava/lang/Object;)Z" } : Jvm.MethodName)) ∈ lw_all := lw_g (lw_at lw_m4 112 rfl) rfl
theorem q892 : (Jvm.Cond.methodLink "ExchangeText" (53 : Nat) ({ cls := "java/lang/StringBuilder", name := "setLength", desc := "(I)V" } : Jvm.MethodName)) ∈ lw_all := lw_g (lw_at lw_m4 113 rfl) rfl
theorem q915 : (Jvm.Cond.methodLink "ExchangeText" (84 : Nat) ({ cls := "java/util/ArrayList", name := "size", desc := "()I" } : Jvm.MethodName)) ∈ lw_all := lw_g (lw_at lw_m4 136 rfl) rfl
theorem q917 : (Jvm.Cond.instanceMethod ({ cls := "ExchangeText", name := "read", desc := "()I" } : Jvm.MethodName)) ∈ lw_all := lw_g (lw_at lw_m4 138 rfl) rfl
theorem q918 : (Jvm.Cond.selects "ExchangeText" ({ cls := "ExchangeText", name := "read", desc := "()I" } : Jvm.MethodName) ({ cls := "ExchangeText", name := "read", desc := "()I" } : Jvm.MethodName)) ∈ lw_all := lw_g (lw_at lw_m4 139 rfl) rfl
theorem q919 : (Jvm.Cond.codeWith ({ cls := "ExchangeText", name := "read", desc := "()I" } : Jvm.MethodName) prog_1_method_7_code (8 : Nat) (Option.some Jvm.ClassFile.FieldType.int) [((28 : Nat), (67 : Nat), (70 : Nat), (78 : Nat))]) ∈ lw_all := lw_g (lw_at lw_m4 140 rfl) rfl
theorem q920 : (Jvm.Cond.methodLink "ExchangeText" (87 : Nat) ({ cls := "ExchangeText$Reader", name := "readLine", desc := "(Ljava/util/TreeMap;)LExchangeText$Line;" } : Jvm.MethodName)) ∈ lw_all := lw_g (lw_at lw_m4 141 rfl) rfl
theorem q1195 : (Jvm.Cond.fieldLink "ExchangeText" (91 : Nat) "ExchangeText$Line" "number" "I") ∈ lw_all := lw_g (lw_at lw_m5 176 rfl) rfl
theorem q1197 : (Jvm.Cond.fieldLink "ExchangeText" (148 : Nat) "ExchangeText$Line" "name" "Ljava/lang/String;") ∈ lw_all := lw_g (lw_at lw_m5 178 rfl) rfl
theorem q1199 : (Jvm.Cond.fieldLink "ExchangeText" (155 : Nat) "ExchangeText$Line" "arguments" "Ljava/util/ArrayList;") ∈ lw_all := lw_g (lw_at lw_m5 180 rfl) rfl
theorem q1250 : (Jvm.Cond.fieldLinkNest "ExchangeText" (215 : Nat) "ExchangeText$Argument" "sort" "LExchangeText$Sort;" "ExchangeText") ∈ lw_tbl := lw_at lw_m5 231 rfl
theorem q1255 : (Jvm.Cond.fieldLinkNest "ExchangeText" (193 : Nat) "ExchangeText$Argument" "items" "[I" "ExchangeText") ∈ lw_tbl := lw_at lw_m5 236 rfl
theorem q1310 : (Jvm.Cond.methodLink "ExchangeText" (96 : Nat) ({ cls := "java/lang/Integer", name := "valueOf", desc := "(I)Ljava/lang/Integer;" } : Jvm.MethodName)) ∈ lw_all := lw_g (lw_at lw_m6 51 rfl) rfl
theorem q1311 : (Jvm.Cond.methodLink "ExchangeText" (102 : Nat) ({ cls := "java/util/TreeMap", name := "put", desc := "(Ljava/lang/Object;Ljava/lang/Object;)Ljava/lang/Object;" } : Jvm.MethodName)) ∈ lw_all := lw_g (lw_at lw_m6 52 rfl) rfl
theorem q1387 : (Jvm.Cond.methodLink "ExchangeText" (106 : Nat) ({ cls := "java/util/ArrayList", name := "iterator", desc := "()Ljava/util/Iterator;" } : Jvm.MethodName)) ∈ lw_all := lw_g (lw_at lw_m6 128 rfl) rfl
theorem q1388 : (Jvm.Cond.interfaceEntry "ExchangeText" (110 : Nat)) ∈ lw_tbl := lw_at lw_m6 129 rfl
theorem q1389 : (Jvm.Cond.methodLink "ExchangeText" (110 : Nat) ({ cls := "java/util/Iterator", name := "hasNext", desc := "()Z" } : Jvm.MethodName)) ∈ lw_all := lw_g (lw_at lw_m6 130 rfl) rfl
theorem q1390 : (Jvm.Cond.interfaceEntry "ExchangeText" (115 : Nat)) ∈ lw_tbl := lw_at lw_m6 131 rfl
theorem q1391 : (Jvm.Cond.methodLink "ExchangeText" (115 : Nat) ({ cls := "java/util/Iterator", name := "next", desc := "()Ljava/lang/Object;" } : Jvm.MethodName)) ∈ lw_all := lw_g (lw_at lw_m6 132 rfl) rfl
theorem q1392 : (Jvm.Cond.classLink "ExchangeText" (92 : Nat) "ExchangeText$Line") ∈ lw_all := lw_g (lw_at lw_m6 133 rfl) rfl
theorem q1393 : (Jvm.Cond.methodLink "ExchangeText" (119 : Nat) ({ cls := "ExchangeText$Line", name := "references", desc := "()Ljava/util/ArrayList;" } : Jvm.MethodName)) ∈ lw_all := lw_g (lw_at lw_m6 134 rfl) rfl
theorem q1411 : (Jvm.Cond.classLink "ExchangeText" (97 : Nat) "java/lang/Integer") ∈ lw_all := lw_g (lw_at lw_m6 152 rfl) rfl
theorem q1412 : (Jvm.Cond.methodLink "ExchangeText" (123 : Nat) ({ cls := "java/lang/Integer", name := "intValue", desc := "()I" } : Jvm.MethodName)) ∈ lw_all := lw_g (lw_at lw_m6 153 rfl) rfl
theorem q1413 : (Jvm.Cond.methodLink "ExchangeText" (126 : Nat) ({ cls := "java/util/TreeMap", name := "containsKey", desc := "(Ljava/lang/Object;)Z" } : Jvm.MethodName)) ∈ lw_all := lw_g (lw_at lw_m6 154 rfl) rfl
theorem q1414 : (Jvm.Cond.methodLink "ExchangeText" (129 : Nat) ({ cls := "java/util/TreeMap", name := "size", desc := "()I" } : Jvm.MethodName)) ∈ lw_all := lw_g (lw_at lw_m6 155 rfl) rfl
theorem q1416 : (Jvm.Cond.instanceMethod ({ cls := "ExchangeText", name := "write", desc := "()I" } : Jvm.MethodName)) ∈ lw_all := lw_g (lw_at lw_m6 157 rfl) rfl
theorem q1417 : (Jvm.Cond.selects "ExchangeText" ({ cls := "ExchangeText", name := "write", desc := "()I" } : Jvm.MethodName) ({ cls := "ExchangeText", name := "write", desc := "()I" } : Jvm.MethodName)) ∈ lw_all := lw_g (lw_at lw_m6 158 rfl) rfl
theorem q1418 : (Jvm.Cond.code ({ cls := "ExchangeText", name := "write", desc := "()I" } : Jvm.MethodName) prog_1_method_8_code (4 : Nat) (Option.some Jvm.ClassFile.FieldType.int)) ∈ lw_all := lw_g (lw_at lw_m6 159 rfl) rfl
theorem q1419 : (Jvm.Cond.methodLink "ExchangeText" (130 : Nat) ({ cls := "java/util/TreeMap", name := "entrySet", desc := "()Ljava/util/Set;" } : Jvm.MethodName)) ∈ lw_all := lw_g (lw_at lw_m6 160 rfl) rfl
theorem q1436 : (Jvm.Cond.interfaceEntry "ExchangeText" (134 : Nat)) ∈ lw_tbl := lw_at lw_m6 177 rfl
theorem q1437 : (Jvm.Cond.methodLink "ExchangeText" (134 : Nat) ({ cls := "java/util/Set", name := "iterator", desc := "()Ljava/util/Iterator;" } : Jvm.MethodName)) ∈ lw_all := lw_g (lw_at lw_m6 178 rfl) rfl
theorem q1472 : (Jvm.Cond.classLink "ExchangeText" (137 : Nat) "java/util/Map$Entry") ∈ lw_all := lw_g (lw_at lw_m6 213 rfl) rfl
theorem q1473 : (Jvm.Cond.interfaceEntry "ExchangeText" (139 : Nat)) ∈ lw_tbl := lw_at lw_m6 214 rfl
theorem q1474 : (Jvm.Cond.methodLink "ExchangeText" (139 : Nat) ({ cls := "java/util/Map$Entry", name := "getValue", desc := "()Ljava/lang/Object;" } : Jvm.MethodName)) ∈ lw_all := lw_g (lw_at lw_m6 215 rfl) rfl
theorem q1483 : (Jvm.Cond.methodLink "ExchangeText" (142 : Nat) ({ cls := "ExchangeText$Line", name := "write", desc := "(Ljava/lang/StringBuilder;)V" } : Jvm.MethodName)) ∈ lw_all := lw_g (lw_at lw_m6 224 rfl) rfl
theorem q1526 : (Jvm.Cond.methodLink "ExchangeText" (42 : Nat) ({ cls := "java/lang/StringBuilder", name := "length", desc := "()I" } : Jvm.MethodName)) ∈ lw_all := lw_g (lw_at lw_m7 27 rfl) rfl
theorem q1527 : (Jvm.Cond.methodLink "ExchangeText" (145 : Nat) ({ cls := "java/lang/StringBuilder", name := "append", desc := "(Ljava/lang/CharSequence;)Ljava/lang/StringBuilder;" } : Jvm.MethodName)) ∈ lw_all := lw_g (lw_at lw_m7 28 rfl) rfl
theorem q1618 : (Jvm.Cond.instanceMethod ({ cls := "ExchangeText", name := "keep", desc := "()I" } : Jvm.MethodName)) ∈ lw_all := lw_g (lw_at lw_m7 119 rfl) rfl
theorem q1619 : (Jvm.Cond.selects "ExchangeText" ({ cls := "ExchangeText", name := "keep", desc := "()I" } : Jvm.MethodName) ({ cls := "ExchangeText", name := "keep", desc := "()I" } : Jvm.MethodName)) ∈ lw_all := lw_g (lw_at lw_m7 120 rfl) rfl
theorem q1620 : (Jvm.Cond.code ({ cls := "ExchangeText", name := "keep", desc := "()I" } : Jvm.MethodName) prog_1_method_9_code (5 : Nat) (Option.some Jvm.ClassFile.FieldType.int)) ∈ lw_all := lw_g (lw_at lw_m7 121 rfl) rfl
theorem q1621 : (Jvm.Cond.methodLink "ExchangeText" (152 : Nat) ({ cls := "ExchangeText$Line", name := "<init>", desc := "(ILjava/lang/String;)V" } : Jvm.MethodName)) ∈ lw_all := lw_g (lw_at lw_m7 122 rfl) rfl
theorem q1622 : (Jvm.Cond.methodLink "ExchangeText" (158 : Nat) ({ cls := "java/util/ArrayList", name := "addAll", desc := "(Ljava/util/Collection;)Z" } : Jvm.MethodName)) ∈ lw_all := lw_g (lw_at lw_m7 123 rfl) rfl
theorem q1667 : (Jvm.Cond.instanceMethod ({ cls := "ExchangeText", name := "join", desc := "()I" } : Jvm.MethodName)) ∈ lw_all := lw_g (lw_at lw_m7 168 rfl) rfl
theorem q1668 : (Jvm.Cond.selects "ExchangeText" ({ cls := "ExchangeText", name := "join", desc := "()I" } : Jvm.MethodName) ({ cls := "ExchangeText", name := "join", desc := "()I" } : Jvm.MethodName)) ∈ lw_all := lw_g (lw_at lw_m7 169 rfl) rfl
theorem q1669 : (Jvm.Cond.code ({ cls := "ExchangeText", name := "join", desc := "()I" } : Jvm.MethodName) prog_1_method_29_code (8 : Nat) (Option.some Jvm.ClassFile.FieldType.int)) ∈ lw_all := lw_g (lw_at lw_m7 170 rfl) rfl
theorem q1670 : (Jvm.Cond.methodLink "ExchangeText" (292 : Nat) ({ cls := "ExchangeText", name := "least", desc := "()[I" } : Jvm.MethodName)) ∈ lw_all := lw_g (lw_at lw_m7 171 rfl) rfl
theorem q1671 : (Jvm.Cond.privateMethod ({ cls := "ExchangeText", name := "least", desc := "()[I" } : Jvm.MethodName)) ∈ lw_tbl := lw_at lw_m7 172 rfl
theorem q1672 : (Jvm.Cond.instanceMethod ({ cls := "ExchangeText", name := "least", desc := "()[I" } : Jvm.MethodName)) ∈ lw_all := lw_g (lw_at lw_m7 173 rfl) rfl
theorem q1673 : (Jvm.Cond.code ({ cls := "ExchangeText", name := "least", desc := "()[I" } : Jvm.MethodName) prog_1_method_27_code (11 : Nat) (Option.some (Jvm.ClassFile.FieldType.array Jvm.ClassFile.FieldType.int))) ∈ lw_all := lw_g (lw_at lw_m7 174 rfl) rfl
theorem q1674 : (Jvm.Cond.methodLink "ExchangeText" (207 : Nat) ({ cls := "ExchangeText", name := "depths", desc := "()[I" } : Jvm.MethodName)) ∈ lw_all := lw_g (lw_at lw_m7 175 rfl) rfl
theorem q1675 : (Jvm.Cond.privateMethod ({ cls := "ExchangeText", name := "depths", desc := "()[I" } : Jvm.MethodName)) ∈ lw_tbl := lw_at lw_m7 176 rfl
theorem q1676 : (Jvm.Cond.instanceMethod ({ cls := "ExchangeText", name := "depths", desc := "()[I" } : Jvm.MethodName)) ∈ lw_all := lw_g (lw_at lw_m7 177 rfl) rfl
theorem q1677 : (Jvm.Cond.code ({ cls := "ExchangeText", name := "depths", desc := "()[I" } : Jvm.MethodName) prog_1_method_14_code (6 : Nat) (Option.some (Jvm.ClassFile.FieldType.array Jvm.ClassFile.FieldType.int))) ∈ lw_all := lw_g (lw_at lw_m7 178 rfl) rfl
theorem q1678 : (Jvm.Cond.interfaceEntry "ExchangeText" (175 : Nat)) ∈ lw_tbl := lw_at lw_m7 179 rfl
theorem q1679 : (Jvm.Cond.methodLink "ExchangeText" (175 : Nat) ({ cls := "java/util/Map$Entry", name := "getKey", desc := "()Ljava/lang/Object;" } : Jvm.MethodName)) ∈ lw_all := lw_g (lw_at lw_m7 180 rfl) rfl
theorem q1687 : (Jvm.Cond.methodLink "ExchangeText" (186 : Nat) ({ cls := "ExchangeText", name := "over", desc := "(LExchangeText$Line;[I)I" } : Jvm.MethodName)) ∈ lw_all := lw_g (lw_at lw_m7 188 rfl) rfl
theorem q1688 : (Jvm.Cond.static ({ cls := "ExchangeText", name := "over", desc := "(LExchangeText$Line;[I)I" } : Jvm.MethodName)) ∈ lw_all := lw_g (lw_at lw_m7 189 rfl) rfl
theorem q1689 : (Jvm.Cond.code ({ cls := "ExchangeText", name := "over", desc := "(LExchangeText$Line;[I)I" } : Jvm.MethodName) prog_1_method_15_code (6 : Nat) (Option.some Jvm.ClassFile.FieldType.int)) ∈ lw_all := lw_g (lw_at lw_m7 190 rfl) rfl
theorem q1690 : (Jvm.Cond.classLink "ExchangeText" (173 : Nat) "ExchangeText$Argument") ∈ lw_all := lw_g (lw_at lw_m7 191 rfl) rfl
theorem q1691 : (Jvm.Cond.methodLink "ExchangeText" (190 : Nat) ({ cls := "ExchangeText$Argument", name := "refers", desc := "()Z" } : Jvm.MethodName)) ∈ lw_all := lw_g (lw_at lw_m7 192 rfl) rfl
theorem q1692 : (Jvm.Cond.methodLink "ExchangeText" (197 : Nat) ({ cls := "java/lang/Math", name := "max", desc := "(II)I" } : Jvm.MethodName)) ∈ lw_all := lw_g (lw_at lw_m7 193 rfl) rfl
theorem q1693 : (Jvm.Cond.methodLink "ExchangeText" (280 : Nat) ({ cls := "java/lang/StringBuilder", name := "append", desc := "(Ljava/lang/String;)Ljava/lang/StringBuilder;" } : Jvm.MethodName)) ∈ lw_all := lw_g (lw_at lw_m7 194 rfl) rfl
theorem q1694 : (Jvm.Cond.methodLink "ExchangeText" (49 : Nat) ({ cls := "java/lang/StringBuilder", name := "append", desc := "(C)Ljava/lang/StringBuilder;" } : Jvm.MethodName)) ∈ lw_all := lw_g (lw_at lw_m7 195 rfl) rfl
theorem q1695 : (Jvm.Cond.methodLink "ExchangeText" (283 : Nat) ({ cls := "ExchangeText$Argument", name := "moved", desc := "([I)LExchangeText$Argument;" } : Jvm.MethodName)) ∈ lw_all := lw_g (lw_at lw_m7 196 rfl) rfl
theorem q1699 : (Jvm.Cond.methodLink "ExchangeText" (287 : Nat) ({ cls := "ExchangeText$Argument", name := "write", desc := "(Ljava/lang/StringBuilder;)V" } : Jvm.MethodName)) ∈ lw_all := lw_g (lw_at lw_m7 200 rfl) rfl
theorem q1700 : (Jvm.Cond.methodLink "ExchangeText" (288 : Nat) ({ cls := "java/lang/StringBuilder", name := "toString", desc := "()Ljava/lang/String;" } : Jvm.MethodName)) ∈ lw_all := lw_g (lw_at lw_m7 201 rfl) rfl
theorem q1701 : (Jvm.Cond.methodLink "ExchangeText" (170 : Nat) ({ cls := "java/util/ArrayList", name := "get", desc := "(I)Ljava/lang/Object;" } : Jvm.MethodName)) ∈ lw_all := lw_g (lw_at lw_m7 202 rfl) rfl
theorem q1702 : (Jvm.Cond.classLink "ExchangeText" (182 : Nat) "java/lang/String") ∈ lw_all := lw_g (lw_at lw_m7 203 rfl) rfl
theorem q1703 : (Jvm.Cond.methodLink "ExchangeText" (181 : Nat) ({ cls := "java/lang/String", name := "equals", desc := "(Ljava/lang/Object;)Z" } : Jvm.MethodName)) ∈ lw_all := lw_g (lw_at lw_m7 204 rfl) rfl
theorem q1710 : (Jvm.Cond.instanceMethod ({ cls := "ExchangeText", name := "say", desc := "(J)I" } : Jvm.MethodName)) ∈ lw_all := lw_g (lw_at lw_m7 211 rfl) rfl
theorem q1711 : (Jvm.Cond.selects "ExchangeText" ({ cls := "ExchangeText", name := "say", desc := "(J)I" } : Jvm.MethodName) ({ cls := "ExchangeText", name := "say", desc := "(J)I" } : Jvm.MethodName)) ∈ lw_all := lw_g (lw_at lw_m7 212 rfl) rfl
theorem q1712 : (Jvm.Cond.code ({ cls := "ExchangeText", name := "say", desc := "(J)I" } : Jvm.MethodName) prog_1_method_3_code (6 : Nat) (Option.some Jvm.ClassFile.FieldType.int)) ∈ lw_all := lw_g (lw_at lw_m7 213 rfl) rfl
theorem q1713 : (Jvm.Cond.constantLong "ExchangeText" (36 : Nat) (255 : Int64)) ∈ lw_all := lw_g (lw_at lw_m7 214 rfl) rfl
theorem q1714 : (Jvm.Cond.methodLink "ExchangeText" (38 : Nat) ({ cls := "ExchangeText", name := "need", desc := "(Z)V" } : Jvm.MethodName)) ∈ lw_all := lw_g (lw_at lw_m7 215 rfl) rfl
theorem q1715 : (Jvm.Cond.static ({ cls := "ExchangeText", name := "need", desc := "(Z)V" } : Jvm.MethodName)) ∈ lw_all := lw_g (lw_at lw_m7 216 rfl) rfl
theorem q1716 : (Jvm.Cond.code ({ cls := "ExchangeText", name := "need", desc := "(Z)V" } : Jvm.MethodName) prog_1_method_2_code (1 : Nat) (Option.none : Option Jvm.ClassFile.FieldType)) ∈ lw_all := lw_g (lw_at lw_m7 217 rfl) rfl
theorem q1717 : (Jvm.Cond.classLink "ExchangeText" (33 : Nat) "java/lang/IllegalArgumentException") ∈ lw_all := lw_g (lw_at lw_m7 218 rfl) rfl
theorem q1718 : (Jvm.Cond.methodLink "ExchangeText" (35 : Nat) ({ cls := "java/lang/IllegalArgumentException", name := "<init>", desc := "()V" } : Jvm.MethodName)) ∈ lw_all := lw_g (lw_at lw_m7 219 rfl) rfl
theorem q1728 : (Jvm.Cond.classLink "ExchangeText" (46 : Nat) "java/lang/IllegalStateException") ∈ lw_all := lw_g (lw_at lw_m7 229 rfl) rfl
theorem q1737 : (Jvm.Cond.methodLink "ExchangeText" (48 : Nat) ({ cls := "java/lang/IllegalStateException", name := "<init>", desc := "()V" } : Jvm.MethodName)) ∈ lw_all := lw_g (lw_at lw_m7 238 rfl) rfl
theorem q1747 : (Jvm.Cond.instanceMethod ({ cls := "ExchangeText", name := "trim", desc := "(I)I" } : Jvm.MethodName)) ∈ lw_all := lw_g (lw_at lw_m8 8 rfl) rfl
theorem q1748 : (Jvm.Cond.selects "ExchangeText" ({ cls := "ExchangeText", name := "trim", desc := "(I)I" } : Jvm.MethodName) ({ cls := "ExchangeText", name := "trim", desc := "(I)I" } : Jvm.MethodName)) ∈ lw_all := lw_g (lw_at lw_m8 9 rfl) rfl
theorem q1749 : (Jvm.Cond.code ({ cls := "ExchangeText", name := "trim", desc := "(I)I" } : Jvm.MethodName) prog_1_method_4_code (2 : Nat) (Option.some Jvm.ClassFile.FieldType.int)) ∈ lw_all := lw_g (lw_at lw_m8 10 rfl) rfl
theorem q1754 : (Jvm.Cond.instanceMethod ({ cls := "ExchangeText", name := "charAt", desc := "(I)I" } : Jvm.MethodName)) ∈ lw_all := lw_g (lw_at lw_m8 15 rfl) rfl
theorem q1755 : (Jvm.Cond.selects "ExchangeText" ({ cls := "ExchangeText", name := "charAt", desc := "(I)I" } : Jvm.MethodName) ({ cls := "ExchangeText", name := "charAt", desc := "(I)I" } : Jvm.MethodName)) ∈ lw_all := lw_g (lw_at lw_m8 16 rfl) rfl
theorem q1756 : (Jvm.Cond.code ({ cls := "ExchangeText", name := "charAt", desc := "(I)I" } : Jvm.MethodName) prog_1_method_5_code (2 : Nat) (Option.some Jvm.ClassFile.FieldType.int)) ∈ lw_all := lw_g (lw_at lw_m8 17 rfl) rfl
theorem q1757 : (Jvm.Cond.methodLink "ExchangeText" (57 : Nat) ({ cls := "java/lang/StringBuilder", name := "charAt", desc := "(I)C" } : Jvm.MethodName)) ∈ lw_all := lw_g (lw_at lw_m8 18 rfl) rfl
theorem q1762 : (Jvm.Cond.instanceMethod ({ cls := "ExchangeText", name := "line", desc := "(I)I" } : Jvm.MethodName)) ∈ lw_all := lw_g (lw_at lw_m8 23 rfl) rfl
theorem q1763 : (Jvm.Cond.selects "ExchangeText" ({ cls := "ExchangeText", name := "line", desc := "(I)I" } : Jvm.MethodName) ({ cls := "ExchangeText", name := "line", desc := "(I)I" } : Jvm.MethodName)) ∈ lw_all := lw_g (lw_at lw_m8 24 rfl) rfl
theorem q1764 : (Jvm.Cond.code ({ cls := "ExchangeText", name := "line", desc := "(I)I" } : Jvm.MethodName) prog_1_method_12_code (5 : Nat) (Option.some Jvm.ClassFile.FieldType.int)) ∈ lw_all := lw_g (lw_at lw_m8 25 rfl) rfl
theorem q1769 : (Jvm.Cond.instanceMethod ({ cls := "ExchangeText", name := "told", desc := "(II)I" } : Jvm.MethodName)) ∈ lw_all := lw_g (lw_at lw_m8 30 rfl) rfl
theorem q1770 : (Jvm.Cond.selects "ExchangeText" ({ cls := "ExchangeText", name := "told", desc := "(II)I" } : Jvm.MethodName) ({ cls := "ExchangeText", name := "told", desc := "(II)I" } : Jvm.MethodName)) ∈ lw_all := lw_g (lw_at lw_m8 31 rfl) rfl
theorem q1771 : (Jvm.Cond.code ({ cls := "ExchangeText", name := "told", desc := "(II)I" } : Jvm.MethodName) prog_1_method_16_code (4 : Nat) (Option.some Jvm.ClassFile.FieldType.int)) ∈ lw_all := lw_g (lw_at lw_m8 32 rfl) rfl
theorem q1772 : (Jvm.Cond.methodLink "ExchangeText" (166 : Nat) ({ cls := "ExchangeText", name := "lineOf", desc := "(I)LExchangeText$Line;" } : Jvm.MethodName)) ∈ lw_all := lw_g (lw_at lw_m8 33 rfl) rfl
theorem q1773 : (Jvm.Cond.privateMethod ({ cls := "ExchangeText", name := "lineOf", desc := "(I)LExchangeText$Line;" } : Jvm.MethodName)) ∈ lw_tbl := lw_at lw_m8 34 rfl
theorem q1774 : (Jvm.Cond.instanceMethod ({ cls := "ExchangeText", name := "lineOf", desc := "(I)LExchangeText$Line;" } : Jvm.MethodName)) ∈ lw_all := lw_g (lw_at lw_m8 35 rfl) rfl
theorem q1775 : (Jvm.Cond.code ({ cls := "ExchangeText", name := "lineOf", desc := "(I)LExchangeText$Line;" } : Jvm.MethodName) prog_1_method_10_code (3 : Nat) (Option.some (Jvm.ClassFile.FieldType.object "ExchangeText$Line"))) ∈ lw_all := lw_g (lw_at lw_m8 36 rfl) rfl
theorem q1776 : (Jvm.Cond.methodLink "ExchangeText" (162 : Nat) ({ cls := "java/util/TreeMap", name := "get", desc := "(Ljava/lang/Object;)Ljava/lang/Object;" } : Jvm.MethodName)) ∈ lw_all := lw_g (lw_at lw_m8 37 rfl) rfl
theorem q1780 : (Jvm.Cond.methodLink "ExchangeText" (203 : Nat) ({ cls := "ExchangeText", name := "kindOf", desc := "(LExchangeText$Line;)I" } : Jvm.MethodName)) ∈ lw_all := lw_g (lw_at lw_m8 41 rfl) rfl
theorem q1781 : (Jvm.Cond.privateMethod ({ cls := "ExchangeText", name := "kindOf", desc := "(LExchangeText$Line;)I" } : Jvm.MethodName)) ∈ lw_tbl := lw_at lw_m8 42 rfl
theorem q1782 : (Jvm.Cond.instanceMethod ({ cls := "ExchangeText", name := "kindOf", desc := "(LExchangeText$Line;)I" } : Jvm.MethodName)) ∈ lw_all := lw_g (lw_at lw_m8 43 rfl) rfl
theorem q1783 : (Jvm.Cond.code ({ cls := "ExchangeText", name := "kindOf", desc := "(LExchangeText$Line;)I" } : Jvm.MethodName) prog_1_method_13_code (3 : Nat) (Option.some Jvm.ClassFile.FieldType.int)) ∈ lw_all := lw_g (lw_at lw_m8 44 rfl) rfl
theorem q1784 : (Jvm.Cond.classLink "ExchangeText" (178 : Nat) "ExchangeText$Kind") ∈ lw_all := lw_g (lw_at lw_m8 45 rfl) rfl
theorem q1789 : (Jvm.Cond.instanceMethod ({ cls := "ExchangeText", name := "argument", desc := "(III)I" } : Jvm.MethodName)) ∈ lw_all := lw_g (lw_at lw_m8 50 rfl) rfl
theorem q1790 : (Jvm.Cond.selects "ExchangeText" ({ cls := "ExchangeText", name := "argument", desc := "(III)I" } : Jvm.MethodName) ({ cls := "ExchangeText", name := "argument", desc := "(III)I" } : Jvm.MethodName)) ∈ lw_all := lw_g (lw_at lw_m8 51 rfl) rfl
theorem q1791 : (Jvm.Cond.code ({ cls := "ExchangeText", name := "argument", desc := "(III)I" } : Jvm.MethodName) prog_1_method_17_code (5 : Nat) (Option.some Jvm.ClassFile.FieldType.int)) ∈ lw_all := lw_g (lw_at lw_m8 52 rfl) rfl
theorem q1792 : (Jvm.Cond.methodLink "ExchangeText" (211 : Nat) ({ cls := "ExchangeText", name := "argumentOf", desc := "(II)LExchangeText$Argument;" } : Jvm.MethodName)) ∈ lw_all := lw_g (lw_at lw_m8 53 rfl) rfl
theorem q1793 : (Jvm.Cond.privateMethod ({ cls := "ExchangeText", name := "argumentOf", desc := "(II)LExchangeText$Argument;" } : Jvm.MethodName)) ∈ lw_tbl := lw_at lw_m8 54 rfl
theorem q1794 : (Jvm.Cond.instanceMethod ({ cls := "ExchangeText", name := "argumentOf", desc := "(II)LExchangeText$Argument;" } : Jvm.MethodName)) ∈ lw_all := lw_g (lw_at lw_m8 55 rfl) rfl
theorem q1795 : (Jvm.Cond.code ({ cls := "ExchangeText", name := "argumentOf", desc := "(II)LExchangeText$Argument;" } : Jvm.MethodName) prog_1_method_11_code (4 : Nat) (Option.some (Jvm.ClassFile.FieldType.object "ExchangeText$Argument"))) ∈ lw_all := lw_g (lw_at lw_m8 56 rfl) rfl
theorem q1796 : (Jvm.Cond.methodLink "ExchangeText" (219 : Nat) ({ cls := "ExchangeText$Sort", name := "ordinal", desc := "()I" } : Jvm.MethodName)) ∈ lw_all := lw_g (lw_at lw_m8 57 rfl) rfl
theorem q1797 : (Jvm.Cond.fieldLink "ExchangeText" (224 : Nat) "ExchangeText$Sort" "NUMBER" "LExchangeText$Sort;") ∈ lw_all := lw_g (lw_at lw_m8 58 rfl) rfl
theorem q1798 : (Jvm.Cond.fieldLink "ExchangeText" (227 : Nat) "ExchangeText$Sort" "REFERENCE" "LExchangeText$Sort;") ∈ lw_all := lw_g (lw_at lw_m8 59 rfl) rfl
theorem q1799 : (Jvm.Cond.methodLink "ExchangeText" (230 : Nat) ({ cls := "ExchangeText$Argument", name := "size", desc := "()I" } : Jvm.MethodName)) ∈ lw_all := lw_g (lw_at lw_m8 60 rfl) rfl
theorem q1813 : (Jvm.Cond.instanceMethod ({ cls := "ExchangeText", name := "item", desc := "(III)I" } : Jvm.MethodName)) ∈ lw_all := lw_g (lw_at lw_m8 74 rfl) rfl
theorem q1814 : (Jvm.Cond.selects "ExchangeText" ({ cls := "ExchangeText", name := "item", desc := "(III)I" } : Jvm.MethodName) ({ cls := "ExchangeText", name := "item", desc := "(III)I" } : Jvm.MethodName)) ∈ lw_all := lw_g (lw_at lw_m8 75 rfl) rfl
theorem q1815 : (Jvm.Cond.code ({ cls := "ExchangeText", name := "item", desc := "(III)I" } : Jvm.MethodName) prog_1_method_18_code (5 : Nat) (Option.some Jvm.ClassFile.FieldType.int)) ∈ lw_all := lw_g (lw_at lw_m8 76 rfl) rfl
theorem q1816 : (Jvm.Cond.methodLink "ExchangeText" (231 : Nat) ({ cls := "ExchangeText$Argument", name := "item", desc := "(I)I" } : Jvm.MethodName)) ∈ lw_all := lw_g (lw_at lw_m8 77 rfl) rfl
theorem q1824 : (Jvm.Cond.instanceMethod ({ cls := "ExchangeText", name := "set", desc := "(III)I" } : Jvm.MethodName)) ∈ lw_all := lw_g (lw_at lw_m8 85 rfl) rfl
theorem q1825 : (Jvm.Cond.selects "ExchangeText" ({ cls := "ExchangeText", name := "set", desc := "(III)I" } : Jvm.MethodName) ({ cls := "ExchangeText", name := "set", desc := "(III)I" } : Jvm.MethodName)) ∈ lw_all := lw_g (lw_at lw_m8 86 rfl) rfl
theorem q1826 : (Jvm.Cond.code ({ cls := "ExchangeText", name := "set", desc := "(III)I" } : Jvm.MethodName) prog_1_method_19_code (6 : Nat) (Option.some Jvm.ClassFile.FieldType.int)) ∈ lw_all := lw_g (lw_at lw_m8 87 rfl) rfl
theorem q1827 : (Jvm.Cond.constant "ExchangeText" (235 : Nat) (-999999999 : Int32)) ∈ lw_all := lw_g (lw_at lw_m8 88 rfl) rfl
theorem q1828 : (Jvm.Cond.constant "ExchangeText" (236 : Nat) (999999999 : Int32)) ∈ lw_all := lw_g (lw_at lw_m8 89 rfl) rfl
theorem q1829 : (Jvm.Cond.methodLink "ExchangeText" (237 : Nat) ({ cls := "ExchangeText$Argument", name := "of", desc := "(LExchangeText$Sort;I)LExchangeText$Argument;" } : Jvm.MethodName)) ∈ lw_all := lw_g (lw_at lw_m8 90 rfl) rfl
theorem q1830 : (Jvm.Cond.methodLink "ExchangeText" (241 : Nat) ({ cls := "java/util/ArrayList", name := "set", desc := "(ILjava/lang/Object;)Ljava/lang/Object;" } : Jvm.MethodName)) ∈ lw_all := lw_g (lw_at lw_m8 91 rfl) rfl
theorem q1838 : (Jvm.Cond.instanceMethod ({ cls := "ExchangeText", name := "wrong", desc := "(II)I" } : Jvm.MethodName)) ∈ lw_all := lw_g (lw_at lw_m8 99 rfl) rfl
theorem q1839 : (Jvm.Cond.selects "ExchangeText" ({ cls := "ExchangeText", name := "wrong", desc := "(II)I" } : Jvm.MethodName) ({ cls := "ExchangeText", name := "wrong", desc := "(II)I" } : Jvm.MethodName)) ∈ lw_all := lw_g (lw_at lw_m8 100 rfl) rfl
theorem q1840 : (Jvm.Cond.code ({ cls := "ExchangeText", name := "wrong", desc := "(II)I" } : Jvm.MethodName) prog_1_method_21_code (7 : Nat) (Option.some Jvm.ClassFile.FieldType.int)) ∈ lw_all := lw_g (lw_at lw_m8 101 rfl) rfl
theorem q1841 : (Jvm.Cond.methodLink "ExchangeText" (250 : Nat) ({ cls := "ExchangeText", name := "why", desc := "(LExchangeText$Line;)I" } : Jvm.MethodName)) ∈ lw_all := lw_g (lw_at lw_m8 102 rfl) rfl
theorem q1842 : (Jvm.Cond.privateMethod ({ cls := "ExchangeText", name := "why", desc := "(LExchangeText$Line;)I" } : Jvm.MethodName)) ∈ lw_tbl := lw_at lw_m8 103 rfl
theorem q1843 : (Jvm.Cond.instanceMethod ({ cls := "ExchangeText", name := "why", desc := "(LExchangeText$Line;)I" } : Jvm.MethodName)) ∈ lw_all := lw_g (lw_at lw_m8 104 rfl) rfl
theorem q1844 : (Jvm.Cond.code ({ cls := "ExchangeText", name := "why", desc := "(LExchangeText$Line;)I" } : Jvm.MethodName) prog_1_method_20_code (5 : Nat) (Option.some Jvm.ClassFile.FieldType.int)) ∈ lw_all := lw_g (lw_at lw_m8 105 rfl) rfl
theorem q1845 : (Jvm.Cond.methodLink "ExchangeText" (245 : Nat) ({ cls := "ExchangeText$Kind", name := "size", desc := "()I" } : Jvm.MethodName)) ∈ lw_all := lw_g (lw_at lw_m8 106 rfl) rfl
theorem q1846 : (Jvm.Cond.methodLink "ExchangeText" (246 : Nat) ({ cls := "ExchangeText$Kind", name := "takes", desc := "(ILExchangeText$Argument;)Z" } : Jvm.MethodName)) ∈ lw_all := lw_g (lw_at lw_m8 107 rfl) rfl
theorem q1862 : (Jvm.Cond.instanceMethod ({ cls := "ExchangeText", name := "from", desc := "(II)I" } : Jvm.MethodName)) ∈ lw_all := lw_g (lw_at lw_m8 123 rfl) rfl
theorem q1863 : (Jvm.Cond.selects "ExchangeText" ({ cls := "ExchangeText", name := "from", desc := "(II)I" } : Jvm.MethodName) ({ cls := "ExchangeText", name := "from", desc := "(II)I" } : Jvm.MethodName)) ∈ lw_all := lw_g (lw_at lw_m8 124 rfl) rfl
theorem q1864 : (Jvm.Cond.code ({ cls := "ExchangeText", name := "from", desc := "(II)I" } : Jvm.MethodName) prog_1_method_22_code (7 : Nat) (Option.some Jvm.ClassFile.FieldType.int)) ∈ lw_all := lw_g (lw_at lw_m8 125 rfl) rfl
theorem q1865 : (Jvm.Cond.methodLink "ExchangeText" (253 : Nat) ({ cls := "ExchangeText$Line", name := "refersTo", desc := "(I)Z" } : Jvm.MethodName)) ∈ lw_all := lw_g (lw_at lw_m8 126 rfl) rfl
theorem q1873 : (Jvm.Cond.instanceMethod ({ cls := "ExchangeText", name := "ring", desc := "(I)I" } : Jvm.MethodName)) ∈ lw_all := lw_g (lw_at lw_m8 134 rfl) rfl
theorem q1874 : (Jvm.Cond.selects "ExchangeText" ({ cls := "ExchangeText", name := "ring", desc := "(I)I" } : Jvm.MethodName) ({ cls := "ExchangeText", name := "ring", desc := "(I)I" } : Jvm.MethodName)) ∈ lw_all := lw_g (lw_at lw_m8 135 rfl) rfl
theorem q1875 : (Jvm.Cond.code ({ cls := "ExchangeText", name := "ring", desc := "(I)I" } : Jvm.MethodName) prog_1_method_25_code (8 : Nat) (Option.some Jvm.ClassFile.FieldType.int)) ∈ lw_all := lw_g (lw_at lw_m8 136 rfl) rfl
theorem q1876 : (Jvm.Cond.methodLink "ExchangeText" (266 : Nat) ({ cls := "ExchangeText", name := "table", desc := "()[LExchangeText$Line;" } : Jvm.MethodName)) ∈ lw_all := lw_g (lw_at lw_m8 137 rfl) rfl
theorem q1877 : (Jvm.Cond.privateMethod ({ cls := "ExchangeText", name := "table", desc := "()[LExchangeText$Line;" } : Jvm.MethodName)) ∈ lw_tbl := lw_at lw_m8 138 rfl
theorem q1878 : (Jvm.Cond.instanceMethod ({ cls := "ExchangeText", name := "table", desc := "()[LExchangeText$Line;" } : Jvm.MethodName)) ∈ lw_all := lw_g (lw_at lw_m8 139 rfl) rfl
theorem q1879 : (Jvm.Cond.code ({ cls := "ExchangeText", name := "table", desc := "()[LExchangeText$Line;" } : Jvm.MethodName) prog_1_method_23_code (4 : Nat) (Option.some (Jvm.ClassFile.FieldType.array (Jvm.ClassFile.FieldType.object "ExchangeText$Line")))) ∈ lw_all := lw_g (lw_at lw_m8 140 rfl) rfl
theorem q1881 : (Jvm.Cond.classLink "ExchangeText" (258 : Nat) "java/util/BitSet") ∈ lw_all := lw_g (lw_at lw_m8 142 rfl) rfl
theorem q1882 : (Jvm.Cond.methodLink "ExchangeText" (270 : Nat) ({ cls := "java/util/BitSet", name := "<init>", desc := "()V" } : Jvm.MethodName)) ∈ lw_all := lw_g (lw_at lw_m8 143 rfl) rfl
theorem q1883 : (Jvm.Cond.methodLink "ExchangeText" (271 : Nat) ({ cls := "ExchangeText", name := "isOnRing", desc := "(LExchangeText$Line;[LExchangeText$Line;Ljava/util/BitSet;[I)Z" } : Jvm.MethodName)) ∈ lw_all := lw_g (lw_at lw_m8 144 rfl) rfl
theorem q1884 : (Jvm.Cond.static ({ cls := "ExchangeText", name := "isOnRing", desc := "(LExchangeText$Line;[LExchangeText$Line;Ljava/util/BitSet;[I)Z" } : Jvm.MethodName)) ∈ lw_all := lw_g (lw_at lw_m8 145 rfl) rfl
theorem q1885 : (Jvm.Cond.code ({ cls := "ExchangeText", name := "isOnRing", desc := "(LExchangeText$Line;[LExchangeText$Line;Ljava/util/BitSet;[I)Z" } : Jvm.MethodName) prog_1_method_24_code (9 : Nat) (Option.some Jvm.ClassFile.FieldType.boolean)) ∈ lw_all := lw_g (lw_at lw_m8 146 rfl) rfl
theorem q1886 : (Jvm.Cond.methodLink "ExchangeText" (257 : Nat) ({ cls := "java/util/BitSet", name := "clear", desc := "()V" } : Jvm.MethodName)) ∈ lw_all := lw_g (lw_at lw_m8 147 rfl) rfl
theorem q1890 : (Jvm.Cond.methodLink "ExchangeText" (262 : Nat) ({ cls := "java/util/BitSet", name := "get", desc := "(I)Z" } : Jvm.MethodName)) ∈ lw_all := lw_g (lw_at lw_m8 151 rfl) rfl
theorem q1891 : (Jvm.Cond.methodLink "ExchangeText" (264 : Nat) ({ cls := "java/util/BitSet", name := "set", desc := "(I)V" } : Jvm.MethodName)) ∈ lw_all := lw_g (lw_at lw_m8 152 rfl) rfl
theorem q1896 : (Jvm.Cond.instanceMethod ({ cls := "ExchangeText", name := "place", desc := "(II)J" } : Jvm.MethodName)) ∈ lw_all := lw_g (lw_at lw_m8 157 rfl) rfl
theorem q1897 : (Jvm.Cond.selects "ExchangeText" ({ cls := "ExchangeText", name := "place", desc := "(II)J" } : Jvm.MethodName) ({ cls := "ExchangeText", name := "place", desc := "(II)J" } : Jvm.MethodName)) ∈ lw_all := lw_g (lw_at lw_m8 158 rfl) rfl
theorem q1898 : (Jvm.Cond.code ({ cls := "ExchangeText", name := "place", desc := "(II)J" } : Jvm.MethodName) prog_1_method_26_code (8 : Nat) (Option.some Jvm.ClassFile.FieldType.long)) ∈ lw_all := lw_g (lw_at lw_m8 159 rfl) rfl
theorem q1899 : (Jvm.Cond.methodLink "ExchangeText" (275 : Nat) ({ cls := "ExchangeText$Line", name := "isPlaced", desc := "()Z" } : Jvm.MethodName)) ∈ lw_all := lw_g (lw_at lw_m8 160 rfl) rfl
theorem q1906 : (Jvm.Cond.constantLong "ExchangeText" (278 : Nat) (1000000000000 : Int64)) ∈ lw_all := lw_g (lw_at lw_m8 167 rfl) rfl
theorem q1911 : (Jvm.Cond.instanceMethod ({ cls := "ExchangeText", name := "alike", desc := "(II)Z" } : Jvm.MethodName)) ∈ lw_all := lw_g (lw_at lw_m8 172 rfl) rfl
theorem q1912 : (Jvm.Cond.selects "ExchangeText" ({ cls := "ExchangeText", name := "alike", desc := "(II)Z" } : Jvm.MethodName) ({ cls := "ExchangeText", name := "alike", desc := "(II)Z" } : Jvm.MethodName)) ∈ lw_all := lw_g (lw_at lw_m8 173 rfl) rfl
theorem q1913 : (Jvm.Cond.code ({ cls := "ExchangeText", name := "alike", desc := "(II)Z" } : Jvm.MethodName) prog_1_method_28_code (6 : Nat) (Option.some Jvm.ClassFile.FieldType.boolean)) ∈ lw_all := lw_g (lw_at lw_m8 174 rfl) rfl
theorem q1918 : (Jvm.Cond.instanceMethod ({ cls := "ExchangeText", name := "differs", desc := "(II)I" } : Jvm.MethodName)) ∈ lw_all := lw_g (lw_at lw_m8 179 rfl) rfl
theorem q1919 : (Jvm.Cond.selects "ExchangeText" ({ cls := "ExchangeText", name := "differs", desc := "(II)I" } : Jvm.MethodName) ({ cls := "ExchangeText", name := "differs", desc := "(II)I" } : Jvm.MethodName)) ∈ lw_all := lw_g (lw_at lw_m8 180 rfl) rfl
theorem q1920 : (Jvm.Cond.code ({ cls := "ExchangeText", name := "differs", desc := "(II)I" } : Jvm.MethodName) prog_1_method_30_code (10 : Nat) (Option.some Jvm.ClassFile.FieldType.int)) ∈ lw_all := lw_g (lw_at lw_m8 181 rfl) rfl
theorem q1921 : (Jvm.Cond.methodLink "ExchangeText" (295 : Nat) ({ cls := "ExchangeText$Line", name := "isSame", desc := "(LExchangeText$Line;)Z" } : Jvm.MethodName)) ∈ lw_all := lw_g (lw_at lw_m8 182 rfl) rfl
theorem q1936 : (Jvm.Cond.instanceMethod ({ cls := "ExchangeText", name := "count", desc := "(I)I" } : Jvm.MethodName)) ∈ lw_all := lw_g (lw_at lw_m8 197 rfl) rfl
theorem q1937 : (Jvm.Cond.selects "ExchangeText" ({ cls := "ExchangeText", name := "count", desc := "(I)I" } : Jvm.MethodName) ({ cls := "ExchangeText", name := "count", desc := "(I)I" } : Jvm.MethodName)) ∈ lw_all := lw_g (lw_at lw_m8 198 rfl) rfl
theorem q1938 : (Jvm.Cond.code ({ cls := "ExchangeText", name := "count", desc := "(I)I" } : Jvm.MethodName) prog_1_method_31_code (2 : Nat) (Option.some Jvm.ClassFile.FieldType.int)) ∈ lw_all := lw_g (lw_at lw_m8 199 rfl) rfl
theorem q2286 : (Jvm.Cond.castable "ExchangeText" "java/lang/Object") ∈ lw_tbl := lw_at lw_m10 67 rfl
theorem in_X1 : ∀ w ∈ wsX10, w ∈ lw_all := lw_in wsX10 [213, 215, 217, 219] (by decide +kernel) (by decide +kernel)
/-! java/lang/AbstractStringBuilder -/
def RJ0 : String := "java/lang/AbstractStringBuilder"
abbrev cJ0_init : ByteArray := prog_11_method_2_code
def yJ0_init : MethodName := ⟨RJ0, "<init>", "(I)V"⟩
abbrev cJ0_length : ByteArray := prog_11_method_6_code
def yJ0_length : MethodName := ⟨RJ0, "length", "()I"⟩
abbrev cJ0_charAt : ByteArray := prog_11_method_14_code
def yJ0_charAt : MethodName := ⟨RJ0, "charAt", "(I)C"⟩
abbrev cJ0_substring : ByteArray := prog_11_method_42_code
def yJ0_substring : MethodName := ⟨RJ0, "substring", "(II)Ljava/lang/String;"⟩
abbrev cJ0_isLatin1 : ByteArray := prog_11_method_68_code
def yJ0_isLatin1 : MethodName := ⟨RJ0, "isLatin1", "()Z"⟩
abbrev cJ0_append : ByteArray := prog_11_method_32_code
def yJ0_append : MethodName := ⟨RJ0, "append", "(I)Ljava/lang/AbstractStringBuilder;"⟩
abbrev cJ0_ensureCapacityInternal : ByteArray := prog_11_method_9_code
def yJ0_ensureCapacityInternal : MethodName := ⟨RJ0, "ensureCapacityInternal", "(I)V"⟩
abbrev cJ0_newCapacity : ByteArray := prog_11_method_10_code
def yJ0_newCapacity : MethodName := ⟨RJ0, "newCapacity", "(I)I"⟩
abbrev cJ0_append_2 : ByteArray := prog_11_method_22_code
def yJ0_append_2 : MethodName := ⟨RJ0, "append", "(Ljava/lang/String;)Ljava/lang/AbstractStringBuilder;"⟩
abbrev cJ0_appendNull : ByteArray := prog_11_method_26_code
def yJ0_appendNull : MethodName := ⟨RJ0, "appendNull", "()Ljava/lang/AbstractStringBuilder;"⟩
abbrev cJ0_putStringAt : ByteArray := prog_11_method_73_code
def yJ0_putStringAt : MethodName := ⟨RJ0, "putStringAt", "(ILjava/lang/String;)V"⟩
abbrev cJ0_inflateIfNeededFor : ByteArray := prog_11_method_71_code
def yJ0_inflateIfNeededFor : MethodName := ⟨RJ0, "inflateIfNeededFor", "(Ljava/lang/String;)V"⟩
abbrev cJ0_inflate : ByteArray := prog_11_method_11_code
def yJ0_inflate : MethodName := ⟨RJ0, "inflate", "()V"⟩
abbrev cJ0_getValue : ByteArray := prog_11_method_64_code
def yJ0_getValue : MethodName := ⟨RJ0, "getValue", "()[B"⟩
abbrev cJ0_setLength : ByteArray := prog_11_method_13_code
def yJ0_setLength : MethodName := ⟨RJ0, "setLength", "(I)V"⟩
abbrev cJ0_compareTo : ByteArray := prog_11_method_5_code
def yJ0_compareTo : MethodName := ⟨RJ0, "compareTo", "(Ljava/lang/AbstractStringBuilder;)I"⟩
abbrev cJ0_append_3 : ByteArray := prog_11_method_31_code
def yJ0_append_3 : MethodName := ⟨RJ0, "append", "(C)Ljava/lang/AbstractStringBuilder;"⟩
abbrev cJ0_append_4 : ByteArray := prog_11_method_25_code
def yJ0_append_4 : MethodName := ⟨RJ0, "append", "(Ljava/lang/CharSequence;)Ljava/lang/AbstractStringBuilder;"⟩
abbrev cJ0_append_5 : ByteArray := prog_11_method_24_code
def yJ0_append_5 : MethodName := ⟨RJ0, "append", "(Ljava/lang/AbstractStringBuilder;)Ljava/lang/AbstractStringBuilder;"⟩
abbrev cJ0_inflateIfNeededFor_2 : ByteArray := prog_11_method_72_code
def yJ0_inflateIfNeededFor_2 : MethodName := ⟨RJ0, "inflateIfNeededFor", "(Ljava/lang/AbstractStringBuilder;)V"⟩
abbrev cJ0_getCoder : ByteArray := prog_11_method_67_code
def yJ0_getCoder : MethodName := ⟨RJ0, "getCoder", "()B"⟩
abbrev cJ0_getBytes : ByteArray := prog_11_method_65_code
def yJ0_getBytes : MethodName := ⟨RJ0, "getBytes", "([BIB)V"⟩
abbrev cJ0_append_6 : ByteArray := prog_11_method_27_code
def yJ0_append_6 : MethodName := ⟨RJ0, "append", "(Ljava/lang/CharSequence;II)Ljava/lang/AbstractStringBuilder;"⟩
abbrev cJ0_appendChars : ByteArray := prog_11_method_75_code
def yJ0_appendChars : MethodName := ⟨RJ0, "appendChars", "(Ljava/lang/String;II)V"⟩
abbrev cJ0_appendChars_2 : ByteArray := prog_11_method_76_code
def yJ0_appendChars_2 : MethodName := ⟨RJ0, "appendChars", "(Ljava/lang/CharSequence;II)V"⟩
theorem q61 : (Jvm.Cond.initialized "java/lang/AbstractStringBuilder") ∈ lw_all := lw_g (lw_at lw_m1 2 rfl) rfl
theorem q119 : (Jvm.Cond.instanceMethod ({ cls := "java/lang/AbstractStringBuilder", name := "<init>", desc := "(I)V" } : Jvm.MethodName)) ∈ lw_all := lw_g (lw_at lw_m1 60 rfl) rfl
theorem q120 : (Jvm.Cond.code ({ cls := "java/lang/AbstractStringBuilder", name := "<init>", desc := "(I)V" } : Jvm.MethodName) prog_11_method_2_code (2 : Nat) (Option.none : Option Jvm.ClassFile.FieldType)) ∈ lw_all := lw_g (lw_at lw_m1 61 rfl) rfl
theorem q121 : (Jvm.Cond.methodLink "java/lang/AbstractStringBuilder" (3 : Nat) ({ cls := "java/lang/Object", name := "<init>", desc := "()V" } : Jvm.MethodName)) ∈ lw_all := lw_g (lw_at lw_m1 62 rfl) rfl
theorem q122 : (Jvm.Cond.fieldLink "java/lang/AbstractStringBuilder" (18 : Nat) "java/lang/String" "COMPACT_STRINGS" "Z") ∈ lw_all := lw_g (lw_at lw_m1 63 rfl) rfl
theorem q124 : (Jvm.Cond.methodLink "java/lang/AbstractStringBuilder" (26 : Nat) ({ cls := "java/lang/StringUTF16", name := "newBytesFor", desc := "(I)[B" } : Jvm.MethodName)) ∈ lw_all := lw_g (lw_at lw_m1 65 rfl) rfl
theorem q131 : (Jvm.Cond.fieldLink "java/lang/AbstractStringBuilder" (15 : Nat) "java/lang/AbstractStringBuilder" "value" "[B") ∈ lw_all := lw_g (lw_at lw_m1 72 rfl) rfl
theorem q132 : (Jvm.Cond.fieldLink "java/lang/AbstractStringBuilder" (22 : Nat) "java/lang/AbstractStringBuilder" "coder" "B") ∈ lw_all := lw_g (lw_at lw_m1 73 rfl) rfl
theorem q133 : (Jvm.Cond.fieldLink "java/lang/AbstractStringBuilder" (73 : Nat) "java/lang/AbstractStringBuilder" "maybeLatin1" "Z") ∈ lw_all := lw_g (lw_at lw_m1 74 rfl) rfl
theorem q135 : (Jvm.Cond.fieldLink "java/lang/AbstractStringBuilder" (79 : Nat) "java/lang/AbstractStringBuilder" "count" "I") ∈ lw_all := lw_g (lw_at lw_m1 76 rfl) rfl
theorem q137 : (Jvm.Cond.soleField "java/lang/AbstractStringBuilder" "value") ∈ lw_all := lw_g (lw_at lw_m1 78 rfl) rfl
theorem q139 : (Jvm.Cond.soleField "java/lang/AbstractStringBuilder" "coder") ∈ lw_all := lw_g (lw_at lw_m1 80 rfl) rfl
theorem q141 : (Jvm.Cond.soleField "java/lang/AbstractStringBuilder" "maybeLatin1") ∈ lw_all := lw_g (lw_at lw_m1 82 rfl) rfl
theorem q143 : (Jvm.Cond.soleField "java/lang/AbstractStringBuilder" "count") ∈ lw_all := lw_g (lw_at lw_m1 84 rfl) rfl
theorem q257 : (Jvm.Cond.instanceMethod ({ cls := "java/lang/AbstractStringBuilder", name := "length", desc := "()I" } : Jvm.MethodName)) ∈ lw_all := lw_g (lw_at lw_m1 198 rfl) rfl
theorem q258 : (Jvm.Cond.code ({ cls := "java/lang/AbstractStringBuilder", name := "length", desc := "()I" } : Jvm.MethodName) prog_11_method_6_code (1 : Nat) (Option.some Jvm.ClassFile.FieldType.int)) ∈ lw_all := lw_g (lw_at lw_m1 199 rfl) rfl
theorem q264 : (Jvm.Cond.instanceMethod ({ cls := "java/lang/AbstractStringBuilder", name := "charAt", desc := "(I)C" } : Jvm.MethodName)) ∈ lw_all := lw_g (lw_at lw_m1 205 rfl) rfl
theorem q265 : (Jvm.Cond.code ({ cls := "java/lang/AbstractStringBuilder", name := "charAt", desc := "(I)C" } : Jvm.MethodName) prog_11_method_14_code (5 : Nat) (Option.some Jvm.ClassFile.FieldType.char)) ∈ lw_all := lw_g (lw_at lw_m1 206 rfl) rfl
theorem q266 : (Jvm.Cond.methodLink "java/lang/AbstractStringBuilder" (138 : Nat) ({ cls := "java/lang/Math", name := "min", desc := "(II)I" } : Jvm.MethodName)) ∈ lw_all := lw_g (lw_at lw_m1 207 rfl) rfl
theorem q269 : (Jvm.Cond.methodLink "java/lang/AbstractStringBuilder" (144 : Nat) ({ cls := "java/lang/String", name := "checkIndex", desc := "(II)V" } : Jvm.MethodName)) ∈ lw_all := lw_g (lw_at lw_m1 210 rfl) rfl
theorem q277 : (Jvm.Cond.methodLink "java/lang/AbstractStringBuilder" (148 : Nat) ({ cls := "java/lang/StringUTF16", name := "getChar", desc := "([BI)C" } : Jvm.MethodName)) ∈ lw_all := lw_g (lw_at lw_m1 218 rfl) rfl
theorem q381 : (Jvm.Cond.instanceMethod ({ cls := "java/lang/AbstractStringBuilder", name := "substring", desc := "(II)Ljava/lang/String;" } : Jvm.MethodName)) ∈ lw_all := lw_g (lw_at lw_m2 82 rfl) rfl
theorem q382 : (Jvm.Cond.code ({ cls := "java/lang/AbstractStringBuilder", name := "substring", desc := "(II)Ljava/lang/String;" } : Jvm.MethodName) prog_11_method_42_code (3 : Nat) (Option.some (Jvm.ClassFile.FieldType.object "java/lang/String"))) ∈ lw_all := lw_g (lw_at lw_m2 83 rfl) rfl
theorem q383 : (Jvm.Cond.fieldLink "java/lang/AbstractStringBuilder" (179 : Nat) "jdk/internal/util/Preconditions" "SIOOBE_FORMATTER" "Ljava/util/function/BiFunction;") ∈ lw_all := lw_g (lw_at lw_m2 84 rfl) rfl
theorem q384 : (Jvm.Cond.methodLink "java/lang/AbstractStringBuilder" (161 : Nat) ({ cls := "jdk/internal/util/Preconditions", name := "checkFromToIndex", desc := "(IIILjava/util/function/BiFunction;)I" } : Jvm.MethodName)) ∈ lw_all := lw_g (lw_at lw_m2 85 rfl) rfl
theorem q387 : (Jvm.Cond.methodLink "java/lang/AbstractStringBuilder" (83 : Nat) ({ cls := "java/lang/AbstractStringBuilder", name := "isLatin1", desc := "()Z" } : Jvm.MethodName)) ∈ lw_all := lw_g (lw_at lw_m2 88 rfl) rfl
theorem q388 : (Jvm.Cond.instanceMethod ({ cls := "java/lang/AbstractStringBuilder", name := "isLatin1", desc := "()Z" } : Jvm.MethodName)) ∈ lw_all := lw_g (lw_at lw_m2 89 rfl) rfl
theorem q389 : (Jvm.Cond.sameMethod "java/lang/AbstractStringBuilder" "java/lang/AbstractStringBuilder" "isLatin1" "()Z") ∈ lw_all := lw_g (lw_at lw_m2 90 rfl) rfl
theorem q391 : (Jvm.Cond.code ({ cls := "java/lang/AbstractStringBuilder", name := "isLatin1", desc := "()Z" } : Jvm.MethodName) prog_11_method_68_code (1 : Nat) (Option.some Jvm.ClassFile.FieldType.boolean)) ∈ lw_all := lw_g (lw_at lw_m2 92 rfl) rfl
theorem q392 : (Jvm.Cond.methodLink "java/lang/AbstractStringBuilder" (304 : Nat) ({ cls := "java/lang/StringLatin1", name := "newString", desc := "([BII)Ljava/lang/String;" } : Jvm.MethodName)) ∈ lw_all := lw_g (lw_at lw_m2 93 rfl) rfl
theorem q425 : (Jvm.Cond.instanceMethod ({ cls := "java/lang/AbstractStringBuilder", name := "append", desc := "(I)Ljava/lang/AbstractStringBuilder;" } : Jvm.MethodName)) ∈ lw_all := lw_g (lw_at lw_m2 126 rfl) rfl
theorem q426 : (Jvm.Cond.code ({ cls := "java/lang/AbstractStringBuilder", name := "append", desc := "(I)Ljava/lang/AbstractStringBuilder;" } : Jvm.MethodName) prog_11_method_32_code (4 : Nat) (Option.some (Jvm.ClassFile.FieldType.object "java/lang/AbstractStringBuilder"))) ∈ lw_all := lw_g (lw_at lw_m2 127 rfl) rfl
theorem q427 : (Jvm.Cond.methodLink "java/lang/AbstractStringBuilder" (245 : Nat) ({ cls := "java/lang/Integer", name := "stringSize", desc := "(I)I" } : Jvm.MethodName)) ∈ lw_all := lw_g (lw_at lw_m2 128 rfl) rfl
theorem q430 : (Jvm.Cond.methodLink "java/lang/AbstractStringBuilder" (100 : Nat) ({ cls := "java/lang/AbstractStringBuilder", name := "ensureCapacityInternal", desc := "(I)V" } : Jvm.MethodName)) ∈ lw_all := lw_g (lw_at lw_m2 131 rfl) rfl
theorem q431 : (Jvm.Cond.privateMethod ({ cls := "java/lang/AbstractStringBuilder", name := "ensureCapacityInternal", desc := "(I)V" } : Jvm.MethodName)) ∈ lw_tbl := lw_at lw_m2 132 rfl
theorem q432 : (Jvm.Cond.instanceMethod ({ cls := "java/lang/AbstractStringBuilder", name := "ensureCapacityInternal", desc := "(I)V" } : Jvm.MethodName)) ∈ lw_all := lw_g (lw_at lw_m2 133 rfl) rfl
theorem q433 : (Jvm.Cond.code ({ cls := "java/lang/AbstractStringBuilder", name := "ensureCapacityInternal", desc := "(I)V" } : Jvm.MethodName) prog_11_method_9_code (3 : Nat) (Option.none : Option Jvm.ClassFile.FieldType)) ∈ lw_all := lw_g (lw_at lw_m2 134 rfl) rfl
theorem q434 : (Jvm.Cond.methodLink "java/lang/AbstractStringBuilder" (104 : Nat) ({ cls := "java/lang/AbstractStringBuilder", name := "newCapacity", desc := "(I)I" } : Jvm.MethodName)) ∈ lw_all := lw_g (lw_at lw_m2 135 rfl) rfl
theorem q435 : (Jvm.Cond.privateMethod ({ cls := "java/lang/AbstractStringBuilder", name := "newCapacity", desc := "(I)I" } : Jvm.MethodName)) ∈ lw_tbl := lw_at lw_m2 136 rfl
theorem q436 : (Jvm.Cond.instanceMethod ({ cls := "java/lang/AbstractStringBuilder", name := "newCapacity", desc := "(I)I" } : Jvm.MethodName)) ∈ lw_all := lw_g (lw_at lw_m2 137 rfl) rfl
theorem q437 : (Jvm.Cond.code ({ cls := "java/lang/AbstractStringBuilder", name := "newCapacity", desc := "(I)I" } : Jvm.MethodName) prog_11_method_10_code (6 : Nat) (Option.some Jvm.ClassFile.FieldType.int)) ∈ lw_all := lw_g (lw_at lw_m2 138 rfl) rfl
theorem q438 : (Jvm.Cond.methodLink "java/lang/AbstractStringBuilder" (114 : Nat) ({ cls := "jdk/internal/util/ArraysSupport", name := "newLength", desc := "(III)I" } : Jvm.MethodName)) ∈ lw_all := lw_g (lw_at lw_m2 139 rfl) rfl
theorem q448 : (Jvm.Cond.constant "java/lang/AbstractStringBuilder" (39 : Nat) (2147483647 : Int32)) ∈ lw_all := lw_g (lw_at lw_m2 149 rfl) rfl
theorem q449 : (Jvm.Cond.methodLink "java/lang/AbstractStringBuilder" (108 : Nat) ({ cls := "java/util/Arrays", name := "copyOf", desc := "([BI)[B" } : Jvm.MethodName)) ∈ lw_all := lw_g (lw_at lw_m2 150 rfl) rfl
theorem q463 : (Jvm.Cond.methodLink "java/lang/AbstractStringBuilder" (248 : Nat) ({ cls := "java/lang/Integer", name := "getChars", desc := "(II[B)I" } : Jvm.MethodName)) ∈ lw_all := lw_g (lw_at lw_m2 164 rfl) rfl
theorem q470 : (Jvm.Cond.methodLink "java/lang/AbstractStringBuilder" (251 : Nat) ({ cls := "java/lang/StringUTF16", name := "getChars", desc := "(III[B)I" } : Jvm.MethodName)) ∈ lw_all := lw_g (lw_at lw_m2 171 rfl) rfl
theorem q494 : (Jvm.Cond.instanceMethod ({ cls := "java/lang/AbstractStringBuilder", name := "append", desc := "(Ljava/lang/String;)Ljava/lang/AbstractStringBuilder;" } : Jvm.MethodName)) ∈ lw_all := lw_g (lw_at lw_m2 195 rfl) rfl
theorem q495 : (Jvm.Cond.code ({ cls := "java/lang/AbstractStringBuilder", name := "append", desc := "(Ljava/lang/String;)Ljava/lang/AbstractStringBuilder;" } : Jvm.MethodName) prog_11_method_22_code (3 : Nat) (Option.some (Jvm.ClassFile.FieldType.object "java/lang/AbstractStringBuilder"))) ∈ lw_all := lw_g (lw_at lw_m2 196 rfl) rfl
theorem q496 : (Jvm.Cond.methodLink "java/lang/AbstractStringBuilder" (204 : Nat) ({ cls := "java/lang/AbstractStringBuilder", name := "appendNull", desc := "()Ljava/lang/AbstractStringBuilder;" } : Jvm.MethodName)) ∈ lw_all := lw_g (lw_at lw_m2 197 rfl) rfl
theorem q497 : (Jvm.Cond.privateMethod ({ cls := "java/lang/AbstractStringBuilder", name := "appendNull", desc := "()Ljava/lang/AbstractStringBuilder;" } : Jvm.MethodName)) ∈ lw_tbl := lw_at lw_m2 198 rfl
theorem q498 : (Jvm.Cond.instanceMethod ({ cls := "java/lang/AbstractStringBuilder", name := "appendNull", desc := "()Ljava/lang/AbstractStringBuilder;" } : Jvm.MethodName)) ∈ lw_all := lw_g (lw_at lw_m2 199 rfl) rfl
theorem q499 : (Jvm.Cond.code ({ cls := "java/lang/AbstractStringBuilder", name := "appendNull", desc := "()Ljava/lang/AbstractStringBuilder;" } : Jvm.MethodName) prog_11_method_26_code (3 : Nat) (Option.some (Jvm.ClassFile.FieldType.object "java/lang/AbstractStringBuilder"))) ∈ lw_all := lw_g (lw_at lw_m2 200 rfl) rfl
theorem q500 : (Jvm.Cond.methodLink "java/lang/AbstractStringBuilder" (226 : Nat) ({ cls := "java/lang/StringUTF16", name := "putCharsAt", desc := "([BICCCC)I" } : Jvm.MethodName)) ∈ lw_all := lw_g (lw_at lw_m2 201 rfl) rfl
theorem q503 : (Jvm.Cond.methodLink "java/lang/AbstractStringBuilder" (32 : Nat) ({ cls := "java/lang/String", name := "length", desc := "()I" } : Jvm.MethodName)) ∈ lw_all := lw_g (lw_at lw_m2 204 rfl) rfl
theorem q512 : (Jvm.Cond.methodLink "java/lang/AbstractStringBuilder" (208 : Nat) ({ cls := "java/lang/AbstractStringBuilder", name := "putStringAt", desc := "(ILjava/lang/String;)V" } : Jvm.MethodName)) ∈ lw_all := lw_g (lw_at lw_m2 213 rfl) rfl
theorem q513 : (Jvm.Cond.privateMethod ({ cls := "java/lang/AbstractStringBuilder", name := "putStringAt", desc := "(ILjava/lang/String;)V" } : Jvm.MethodName)) ∈ lw_tbl := lw_at lw_m2 214 rfl
theorem q514 : (Jvm.Cond.instanceMethod ({ cls := "java/lang/AbstractStringBuilder", name := "putStringAt", desc := "(ILjava/lang/String;)V" } : Jvm.MethodName)) ∈ lw_all := lw_g (lw_at lw_m2 215 rfl) rfl
theorem q515 : (Jvm.Cond.code ({ cls := "java/lang/AbstractStringBuilder", name := "putStringAt", desc := "(ILjava/lang/String;)V" } : Jvm.MethodName) prog_11_method_73_code (3 : Nat) (Option.none : Option Jvm.ClassFile.FieldType)) ∈ lw_all := lw_g (lw_at lw_m2 216 rfl) rfl
theorem q516 : (Jvm.Cond.methodLink "java/lang/AbstractStringBuilder" (397 : Nat) ({ cls := "java/lang/AbstractStringBuilder", name := "inflateIfNeededFor", desc := "(Ljava/lang/String;)V" } : Jvm.MethodName)) ∈ lw_all := lw_g (lw_at lw_m2 217 rfl) rfl
theorem q517 : (Jvm.Cond.privateMethod ({ cls := "java/lang/AbstractStringBuilder", name := "inflateIfNeededFor", desc := "(Ljava/lang/String;)V" } : Jvm.MethodName)) ∈ lw_tbl := lw_at lw_m2 218 rfl
theorem q518 : (Jvm.Cond.instanceMethod ({ cls := "java/lang/AbstractStringBuilder", name := "inflateIfNeededFor", desc := "(Ljava/lang/String;)V" } : Jvm.MethodName)) ∈ lw_all := lw_g (lw_at lw_m2 219 rfl) rfl
theorem q519 : (Jvm.Cond.code ({ cls := "java/lang/AbstractStringBuilder", name := "inflateIfNeededFor", desc := "(Ljava/lang/String;)V" } : Jvm.MethodName) prog_11_method_71_code (2 : Nat) (Option.none : Option Jvm.ClassFile.FieldType)) ∈ lw_all := lw_g (lw_at lw_m2 220 rfl) rfl
theorem q520 : (Jvm.Cond.methodLink "java/lang/AbstractStringBuilder" (40 : Nat) ({ cls := "java/lang/String", name := "coder", desc := "()B" } : Jvm.MethodName)) ∈ lw_all := lw_g (lw_at lw_m2 221 rfl) rfl
theorem q521 : (Jvm.Cond.methodLink "java/lang/AbstractStringBuilder" (195 : Nat) ({ cls := "java/lang/AbstractStringBuilder", name := "inflate", desc := "()V" } : Jvm.MethodName)) ∈ lw_all := lw_g (lw_at lw_m2 222 rfl) rfl
theorem q522 : (Jvm.Cond.privateMethod ({ cls := "java/lang/AbstractStringBuilder", name := "inflate", desc := "()V" } : Jvm.MethodName)) ∈ lw_tbl := lw_at lw_m2 223 rfl
theorem q523 : (Jvm.Cond.instanceMethod ({ cls := "java/lang/AbstractStringBuilder", name := "inflate", desc := "()V" } : Jvm.MethodName)) ∈ lw_all := lw_g (lw_at lw_m2 224 rfl) rfl
theorem q524 : (Jvm.Cond.code ({ cls := "java/lang/AbstractStringBuilder", name := "inflate", desc := "()V" } : Jvm.MethodName) prog_11_method_11_code (2 : Nat) (Option.none : Option Jvm.ClassFile.FieldType)) ∈ lw_all := lw_g (lw_at lw_m2 225 rfl) rfl
theorem q525 : (Jvm.Cond.methodLink "java/lang/AbstractStringBuilder" (125 : Nat) ({ cls := "java/lang/StringLatin1", name := "inflate", desc := "([BI[BII)V" } : Jvm.MethodName)) ∈ lw_all := lw_g (lw_at lw_m2 226 rfl) rfl
theorem q540 : (Jvm.Cond.methodLink "java/lang/AbstractStringBuilder" (399 : Nat) ({ cls := "java/lang/String", name := "getBytes", desc := "([BIB)V" } : Jvm.MethodName)) ∈ lw_all := lw_g (lw_at lw_m3 1 rfl) rfl
theorem q559 : (Jvm.Cond.instanceMethod ({ cls := "java/lang/AbstractStringBuilder", name := "getValue", desc := "()[B" } : Jvm.MethodName)) ∈ lw_all := lw_g (lw_at lw_m3 20 rfl) rfl
theorem q560 : (Jvm.Cond.sameMethod "java/lang/AbstractStringBuilder" "java/lang/AbstractStringBuilder" "getValue" "()[B") ∈ lw_all := lw_g (lw_at lw_m3 21 rfl) rfl
theorem q562 : (Jvm.Cond.code ({ cls := "java/lang/AbstractStringBuilder", name := "getValue", desc := "()[B" } : Jvm.MethodName) prog_11_method_64_code (1 : Nat) (Option.some (Jvm.ClassFile.FieldType.array Jvm.ClassFile.FieldType.byte))) ∈ lw_all := lw_g (lw_at lw_m3 23 rfl) rfl
theorem q600 : (Jvm.Cond.methodLink "java/lang/AbstractStringBuilder" (308 : Nat) ({ cls := "java/lang/StringUTF16", name := "newString", desc := "([BII)Ljava/lang/String;" } : Jvm.MethodName)) ∈ lw_all := lw_g (lw_at lw_m3 61 rfl) rfl
theorem q897 : (Jvm.Cond.instanceMethod ({ cls := "java/lang/AbstractStringBuilder", name := "setLength", desc := "(I)V" } : Jvm.MethodName)) ∈ lw_all := lw_g (lw_at lw_m4 118 rfl) rfl
theorem q898 : (Jvm.Cond.code ({ cls := "java/lang/AbstractStringBuilder", name := "setLength", desc := "(I)V" } : Jvm.MethodName) prog_11_method_13_code (2 : Nat) (Option.none : Option Jvm.ClassFile.FieldType)) ∈ lw_all := lw_g (lw_at lw_m4 119 rfl) rfl
theorem q899 : (Jvm.Cond.methodLink "java/lang/AbstractStringBuilder" (133 : Nat) ({ cls := "java/lang/StringLatin1", name := "fillNull", desc := "([BII)V" } : Jvm.MethodName)) ∈ lw_all := lw_g (lw_at lw_m4 120 rfl) rfl
theorem q911 : (Jvm.Cond.methodLink "java/lang/AbstractStringBuilder" (137 : Nat) ({ cls := "java/lang/StringUTF16", name := "fillNull", desc := "([BII)V" } : Jvm.MethodName)) ∈ lw_all := lw_g (lw_at lw_m4 132 rfl) rfl
theorem q1166 : (Jvm.Cond.instanceMethod ({ cls := "java/lang/AbstractStringBuilder", name := "compareTo", desc := "(Ljava/lang/AbstractStringBuilder;)I" } : Jvm.MethodName)) ∈ lw_all := lw_g (lw_at lw_m5 147 rfl) rfl
theorem q1167 : (Jvm.Cond.code ({ cls := "java/lang/AbstractStringBuilder", name := "compareTo", desc := "(Ljava/lang/AbstractStringBuilder;)I" } : Jvm.MethodName) prog_11_method_5_code (6 : Nat) (Option.some Jvm.ClassFile.FieldType.int)) ∈ lw_all := lw_g (lw_at lw_m5 148 rfl) rfl
theorem q1168 : (Jvm.Cond.methodLink "java/lang/AbstractStringBuilder" (87 : Nat) ({ cls := "java/lang/StringLatin1", name := "compareTo", desc := "([B[BII)I" } : Jvm.MethodName)) ∈ lw_all := lw_g (lw_at lw_m5 149 rfl) rfl
theorem q1169 : (Jvm.Cond.methodLink "java/lang/AbstractStringBuilder" (93 : Nat) ({ cls := "java/lang/StringUTF16", name := "compareTo", desc := "([B[BII)I" } : Jvm.MethodName)) ∈ lw_all := lw_g (lw_at lw_m5 150 rfl) rfl
theorem q1178 : (Jvm.Cond.methodLink "java/lang/AbstractStringBuilder" (94 : Nat) ({ cls := "java/lang/StringLatin1", name := "compareToUTF16", desc := "([B[BII)I" } : Jvm.MethodName)) ∈ lw_all := lw_g (lw_at lw_m5 159 rfl) rfl
theorem q1182 : (Jvm.Cond.methodLink "java/lang/AbstractStringBuilder" (97 : Nat) ({ cls := "java/lang/StringUTF16", name := "compareToLatin1", desc := "([B[BII)I" } : Jvm.MethodName)) ∈ lw_all := lw_g (lw_at lw_m5 163 rfl) rfl
theorem q1223 : (Jvm.Cond.instanceMethod ({ cls := "java/lang/AbstractStringBuilder", name := "append", desc := "(C)Ljava/lang/AbstractStringBuilder;" } : Jvm.MethodName)) ∈ lw_all := lw_g (lw_at lw_m5 204 rfl) rfl
theorem q1224 : (Jvm.Cond.code ({ cls := "java/lang/AbstractStringBuilder", name := "append", desc := "(C)Ljava/lang/AbstractStringBuilder;" } : Jvm.MethodName) prog_11_method_31_code (2 : Nat) (Option.some (Jvm.ClassFile.FieldType.object "java/lang/AbstractStringBuilder"))) ∈ lw_all := lw_g (lw_at lw_m5 205 rfl) rfl
theorem q1225 : (Jvm.Cond.methodLink "java/lang/AbstractStringBuilder" (191 : Nat) ({ cls := "java/lang/StringLatin1", name := "canEncode", desc := "(C)Z" } : Jvm.MethodName)) ∈ lw_all := lw_g (lw_at lw_m5 206 rfl) rfl
theorem q1228 : (Jvm.Cond.methodLink "java/lang/AbstractStringBuilder" (197 : Nat) ({ cls := "java/lang/StringUTF16", name := "putCharSB", desc := "([BII)V" } : Jvm.MethodName)) ∈ lw_all := lw_g (lw_at lw_m5 209 rfl) rfl
theorem q1532 : (Jvm.Cond.instanceMethod ({ cls := "java/lang/AbstractStringBuilder", name := "append", desc := "(Ljava/lang/CharSequence;)Ljava/lang/AbstractStringBuilder;" } : Jvm.MethodName)) ∈ lw_all := lw_g (lw_at lw_m7 33 rfl) rfl
theorem q1533 : (Jvm.Cond.code ({ cls := "java/lang/AbstractStringBuilder", name := "append", desc := "(Ljava/lang/CharSequence;)Ljava/lang/AbstractStringBuilder;" } : Jvm.MethodName) prog_11_method_25_code (2 : Nat) (Option.some (Jvm.ClassFile.FieldType.object "java/lang/AbstractStringBuilder"))) ∈ lw_all := lw_g (lw_at lw_m7 34 rfl) rfl
theorem q1534 : (Jvm.Cond.classLink "java/lang/AbstractStringBuilder" (1 : Nat) "java/lang/String") ∈ lw_all := lw_g (lw_at lw_m7 35 rfl) rfl
theorem q1535 : (Jvm.Cond.methodLink "java/lang/AbstractStringBuilder" (43 : Nat) ({ cls := "java/lang/AbstractStringBuilder", name := "append", desc := "(Ljava/lang/String;)Ljava/lang/AbstractStringBuilder;" } : Jvm.MethodName)) ∈ lw_all := lw_g (lw_at lw_m7 36 rfl) rfl
theorem q1539 : (Jvm.Cond.classLink "java/lang/AbstractStringBuilder" (10 : Nat) "java/lang/AbstractStringBuilder") ∈ lw_all := lw_g (lw_at lw_m7 40 rfl) rfl
theorem q1540 : (Jvm.Cond.methodLink "java/lang/AbstractStringBuilder" (212 : Nat) ({ cls := "java/lang/AbstractStringBuilder", name := "append", desc := "(Ljava/lang/AbstractStringBuilder;)Ljava/lang/AbstractStringBuilder;" } : Jvm.MethodName)) ∈ lw_all := lw_g (lw_at lw_m7 41 rfl) rfl
theorem q1541 : (Jvm.Cond.instanceMethod ({ cls := "java/lang/AbstractStringBuilder", name := "append", desc := "(Ljava/lang/AbstractStringBuilder;)Ljava/lang/AbstractStringBuilder;" } : Jvm.MethodName)) ∈ lw_all := lw_g (lw_at lw_m7 42 rfl) rfl
theorem q1542 : (Jvm.Cond.sameMethod "java/lang/AbstractStringBuilder" "java/lang/AbstractStringBuilder" "append" "(Ljava/lang/AbstractStringBuilder;)Ljava/lang/AbstractStringBuilder;") ∈ lw_all := lw_g (lw_at lw_m7 43 rfl) rfl
theorem q1544 : (Jvm.Cond.code ({ cls := "java/lang/AbstractStringBuilder", name := "append", desc := "(Ljava/lang/AbstractStringBuilder;)Ljava/lang/AbstractStringBuilder;" } : Jvm.MethodName) prog_11_method_24_code (3 : Nat) (Option.some (Jvm.ClassFile.FieldType.object "java/lang/AbstractStringBuilder"))) ∈ lw_all := lw_g (lw_at lw_m7 45 rfl) rfl
theorem q1545 : (Jvm.Cond.methodLink "java/lang/AbstractStringBuilder" (160 : Nat) ({ cls := "java/lang/AbstractStringBuilder", name := "length", desc := "()I" } : Jvm.MethodName)) ∈ lw_all := lw_g (lw_at lw_m7 46 rfl) rfl
theorem q1546 : (Jvm.Cond.methodLink "java/lang/AbstractStringBuilder" (215 : Nat) ({ cls := "java/lang/AbstractStringBuilder", name := "inflateIfNeededFor", desc := "(Ljava/lang/AbstractStringBuilder;)V" } : Jvm.MethodName)) ∈ lw_all := lw_g (lw_at lw_m7 47 rfl) rfl
theorem q1547 : (Jvm.Cond.privateMethod ({ cls := "java/lang/AbstractStringBuilder", name := "inflateIfNeededFor", desc := "(Ljava/lang/AbstractStringBuilder;)V" } : Jvm.MethodName)) ∈ lw_tbl := lw_at lw_m7 48 rfl
theorem q1548 : (Jvm.Cond.instanceMethod ({ cls := "java/lang/AbstractStringBuilder", name := "inflateIfNeededFor", desc := "(Ljava/lang/AbstractStringBuilder;)V" } : Jvm.MethodName)) ∈ lw_all := lw_g (lw_at lw_m7 49 rfl) rfl
theorem q1549 : (Jvm.Cond.code ({ cls := "java/lang/AbstractStringBuilder", name := "inflateIfNeededFor", desc := "(Ljava/lang/AbstractStringBuilder;)V" } : Jvm.MethodName) prog_11_method_72_code (2 : Nat) (Option.none : Option Jvm.ClassFile.FieldType)) ∈ lw_all := lw_g (lw_at lw_m7 50 rfl) rfl
theorem q1550 : (Jvm.Cond.methodLink "java/lang/AbstractStringBuilder" (70 : Nat) ({ cls := "java/lang/AbstractStringBuilder", name := "getCoder", desc := "()B" } : Jvm.MethodName)) ∈ lw_all := lw_g (lw_at lw_m7 51 rfl) rfl
theorem q1551 : (Jvm.Cond.instanceMethod ({ cls := "java/lang/AbstractStringBuilder", name := "getCoder", desc := "()B" } : Jvm.MethodName)) ∈ lw_all := lw_g (lw_at lw_m7 52 rfl) rfl
theorem q1552 : (Jvm.Cond.sameMethod "java/lang/AbstractStringBuilder" "java/lang/AbstractStringBuilder" "getCoder" "()B") ∈ lw_all := lw_g (lw_at lw_m7 53 rfl) rfl
theorem q1554 : (Jvm.Cond.code ({ cls := "java/lang/AbstractStringBuilder", name := "getCoder", desc := "()B" } : Jvm.MethodName) prog_11_method_67_code (1 : Nat) (Option.some Jvm.ClassFile.FieldType.byte)) ∈ lw_all := lw_g (lw_at lw_m7 55 rfl) rfl
theorem q1555 : (Jvm.Cond.methodLink "java/lang/AbstractStringBuilder" (219 : Nat) ({ cls := "java/lang/AbstractStringBuilder", name := "getBytes", desc := "([BIB)V" } : Jvm.MethodName)) ∈ lw_all := lw_g (lw_at lw_m7 56 rfl) rfl
theorem q1556 : (Jvm.Cond.instanceMethod ({ cls := "java/lang/AbstractStringBuilder", name := "getBytes", desc := "([BIB)V" } : Jvm.MethodName)) ∈ lw_all := lw_g (lw_at lw_m7 57 rfl) rfl
theorem q1557 : (Jvm.Cond.sameMethod "java/lang/AbstractStringBuilder" "java/lang/AbstractStringBuilder" "getBytes" "([BIB)V") ∈ lw_all := lw_g (lw_at lw_m7 58 rfl) rfl
theorem q1559 : (Jvm.Cond.code ({ cls := "java/lang/AbstractStringBuilder", name := "getBytes", desc := "([BIB)V" } : Jvm.MethodName) prog_11_method_65_code (4 : Nat) (Option.none : Option Jvm.ClassFile.FieldType)) ∈ lw_all := lw_g (lw_at lw_m7 60 rfl) rfl
theorem q1560 : (Jvm.Cond.methodLink "java/lang/AbstractStringBuilder" (309 : Nat) ({ cls := "java/lang/System", name := "arraycopy", desc := "(Ljava/lang/Object;ILjava/lang/Object;II)V" } : Jvm.MethodName)) ∈ lw_all := lw_g (lw_at lw_m7 61 rfl) rfl
theorem q1561 : (Jvm.Cond.interfaceEntry "java/lang/AbstractStringBuilder" (47 : Nat)) ∈ lw_tbl := lw_at lw_m7 62 rfl
theorem q1562 : (Jvm.Cond.methodLink "java/lang/AbstractStringBuilder" (47 : Nat) ({ cls := "java/lang/CharSequence", name := "length", desc := "()I" } : Jvm.MethodName)) ∈ lw_all := lw_g (lw_at lw_m7 63 rfl) rfl
theorem q1573 : (Jvm.Cond.methodLink "java/lang/AbstractStringBuilder" (223 : Nat) ({ cls := "java/lang/AbstractStringBuilder", name := "append", desc := "(Ljava/lang/CharSequence;II)Ljava/lang/AbstractStringBuilder;" } : Jvm.MethodName)) ∈ lw_all := lw_g (lw_at lw_m7 74 rfl) rfl
theorem q1574 : (Jvm.Cond.instanceMethod ({ cls := "java/lang/AbstractStringBuilder", name := "append", desc := "(Ljava/lang/CharSequence;II)Ljava/lang/AbstractStringBuilder;" } : Jvm.MethodName)) ∈ lw_all := lw_g (lw_at lw_m7 75 rfl) rfl
theorem q1575 : (Jvm.Cond.sameMethod "java/lang/AbstractStringBuilder" "java/lang/AbstractStringBuilder" "append" "(Ljava/lang/CharSequence;II)Ljava/lang/AbstractStringBuilder;") ∈ lw_all := lw_g (lw_at lw_m7 76 rfl) rfl
theorem q1584 : (Jvm.Cond.code ({ cls := "java/lang/AbstractStringBuilder", name := "append", desc := "(Ljava/lang/CharSequence;II)Ljava/lang/AbstractStringBuilder;" } : Jvm.MethodName) prog_11_method_27_code (5 : Nat) (Option.some (Jvm.ClassFile.FieldType.object "java/lang/AbstractStringBuilder"))) ∈ lw_all := lw_g (lw_at lw_m7 85 rfl) rfl
theorem q1585 : (Jvm.Cond.stringRef "java/lang/AbstractStringBuilder" (230 : Nat) "null") ∈ lw_tbl := lw_at lw_m7 86 rfl
theorem q1586 : (Jvm.Cond.fieldLink "java/lang/AbstractStringBuilder" (183 : Nat) "jdk/internal/util/Preconditions" "IOOBE_FORMATTER" "Ljava/util/function/BiFunction;") ∈ lw_all := lw_g (lw_at lw_m7 87 rfl) rfl
theorem q1588 : (Jvm.Cond.methodLink "java/lang/AbstractStringBuilder" (232 : Nat) ({ cls := "java/lang/AbstractStringBuilder", name := "appendChars", desc := "(Ljava/lang/String;II)V" } : Jvm.MethodName)) ∈ lw_all := lw_g (lw_at lw_m7 89 rfl) rfl
theorem q1589 : (Jvm.Cond.privateMethod ({ cls := "java/lang/AbstractStringBuilder", name := "appendChars", desc := "(Ljava/lang/String;II)V" } : Jvm.MethodName)) ∈ lw_tbl := lw_at lw_m7 90 rfl
theorem q1590 : (Jvm.Cond.instanceMethod ({ cls := "java/lang/AbstractStringBuilder", name := "appendChars", desc := "(Ljava/lang/String;II)V" } : Jvm.MethodName)) ∈ lw_all := lw_g (lw_at lw_m7 91 rfl) rfl
theorem q1591 : (Jvm.Cond.code ({ cls := "java/lang/AbstractStringBuilder", name := "appendChars", desc := "(Ljava/lang/String;II)V" } : Jvm.MethodName) prog_11_method_75_code (8 : Nat) (Option.none : Option Jvm.ClassFile.FieldType)) ∈ lw_all := lw_g (lw_at lw_m7 92 rfl) rfl
theorem q1592 : (Jvm.Cond.methodLink "java/lang/AbstractStringBuilder" (400 : Nat) ({ cls := "java/lang/String", name := "isLatin1", desc := "()Z" } : Jvm.MethodName)) ∈ lw_all := lw_g (lw_at lw_m7 93 rfl) rfl
theorem q1593 : (Jvm.Cond.methodLink "java/lang/AbstractStringBuilder" (401 : Nat) ({ cls := "java/lang/String", name := "value", desc := "()[B" } : Jvm.MethodName)) ∈ lw_all := lw_g (lw_at lw_m7 94 rfl) rfl
theorem q1597 : (Jvm.Cond.methodLink "java/lang/AbstractStringBuilder" (404 : Nat) ({ cls := "java/lang/String", name := "charAt", desc := "(I)C" } : Jvm.MethodName)) ∈ lw_all := lw_g (lw_at lw_m7 98 rfl) rfl
theorem q1598 : (Jvm.Cond.methodLink "java/lang/AbstractStringBuilder" (394 : Nat) ({ cls := "java/lang/StringUTF16", name := "putCharsSB", desc := "([BILjava/lang/CharSequence;II)V" } : Jvm.MethodName)) ∈ lw_all := lw_g (lw_at lw_m7 99 rfl) rfl
theorem q1611 : (Jvm.Cond.methodLink "java/lang/AbstractStringBuilder" (236 : Nat) ({ cls := "java/lang/AbstractStringBuilder", name := "appendChars", desc := "(Ljava/lang/CharSequence;II)V" } : Jvm.MethodName)) ∈ lw_all := lw_g (lw_at lw_m7 112 rfl) rfl
theorem q1612 : (Jvm.Cond.privateMethod ({ cls := "java/lang/AbstractStringBuilder", name := "appendChars", desc := "(Ljava/lang/CharSequence;II)V" } : Jvm.MethodName)) ∈ lw_tbl := lw_at lw_m7 113 rfl
theorem q1613 : (Jvm.Cond.instanceMethod ({ cls := "java/lang/AbstractStringBuilder", name := "appendChars", desc := "(Ljava/lang/CharSequence;II)V" } : Jvm.MethodName)) ∈ lw_all := lw_g (lw_at lw_m7 114 rfl) rfl
theorem q1614 : (Jvm.Cond.code ({ cls := "java/lang/AbstractStringBuilder", name := "appendChars", desc := "(Ljava/lang/CharSequence;II)V" } : Jvm.MethodName) prog_11_method_76_code (8 : Nat) (Option.none : Option Jvm.ClassFile.FieldType)) ∈ lw_all := lw_g (lw_at lw_m7 115 rfl) rfl
theorem q1615 : (Jvm.Cond.interfaceEntry "java/lang/AbstractStringBuilder" (390 : Nat)) ∈ lw_tbl := lw_at lw_m7 116 rfl
theorem q1616 : (Jvm.Cond.methodLink "java/lang/AbstractStringBuilder" (390 : Nat) ({ cls := "java/lang/CharSequence", name := "charAt", desc := "(I)C" } : Jvm.MethodName)) ∈ lw_all := lw_g (lw_at lw_m7 117 rfl) rfl
theorem q2258 : (Jvm.Cond.sameMethod "java/lang/AbstractStringBuilder" "java/lang/AbstractStringBuilder" "length" "()I") ∈ lw_all := lw_g (lw_at lw_m10 39 rfl) rfl
theorem q2259 : (Jvm.Cond.sameMethod "java/lang/AbstractStringBuilder" "java/lang/AbstractStringBuilder" "charAt" "(I)C") ∈ lw_all := lw_g (lw_at lw_m10 40 rfl) rfl
theorem q2261 : (Jvm.Cond.sameMethod "java/lang/AbstractStringBuilder" "java/lang/AbstractStringBuilder" "substring" "(II)Ljava/lang/String;") ∈ lw_all := lw_g (lw_at lw_m10 42 rfl) rfl
theorem q2262 : (Jvm.Cond.sameMethod "java/lang/AbstractStringBuilder" "java/lang/AbstractStringBuilder" "append" "(I)Ljava/lang/AbstractStringBuilder;") ∈ lw_all := lw_g (lw_at lw_m10 43 rfl) rfl
theorem q2263 : (Jvm.Cond.sameMethod "java/lang/AbstractStringBuilder" "java/lang/AbstractStringBuilder" "ensureCapacityInternal" "(I)V") ∈ lw_all := lw_g (lw_at lw_m10 44 rfl) rfl
theorem q2264 : (Jvm.Cond.sameMethod "java/lang/AbstractStringBuilder" "java/lang/AbstractStringBuilder" "newCapacity" "(I)I") ∈ lw_all := lw_g (lw_at lw_m10 45 rfl) rfl
theorem q2265 : (Jvm.Cond.sameMethod "java/lang/AbstractStringBuilder" "java/lang/AbstractStringBuilder" "append" "(Ljava/lang/String;)Ljava/lang/AbstractStringBuilder;") ∈ lw_all := lw_g (lw_at lw_m10 46 rfl) rfl
theorem q2266 : (Jvm.Cond.sameMethod "java/lang/AbstractStringBuilder" "java/lang/AbstractStringBuilder" "appendNull" "()Ljava/lang/AbstractStringBuilder;") ∈ lw_all := lw_g (lw_at lw_m10 47 rfl) rfl
theorem q2267 : (Jvm.Cond.sameMethod "java/lang/AbstractStringBuilder" "java/lang/AbstractStringBuilder" "putStringAt" "(ILjava/lang/String;)V") ∈ lw_all := lw_g (lw_at lw_m10 48 rfl) rfl
theorem q2268 : (Jvm.Cond.sameMethod "java/lang/AbstractStringBuilder" "java/lang/AbstractStringBuilder" "inflateIfNeededFor" "(Ljava/lang/String;)V") ∈ lw_all := lw_g (lw_at lw_m10 49 rfl) rfl
theorem q2269 : (Jvm.Cond.sameMethod "java/lang/AbstractStringBuilder" "java/lang/AbstractStringBuilder" "inflate" "()V") ∈ lw_all := lw_g (lw_at lw_m10 50 rfl) rfl
theorem q2271 : (Jvm.Cond.sameMethod "java/lang/AbstractStringBuilder" "java/lang/AbstractStringBuilder" "setLength" "(I)V") ∈ lw_all := lw_g (lw_at lw_m10 52 rfl) rfl
theorem q2272 : (Jvm.Cond.sameMethod "java/lang/AbstractStringBuilder" "java/lang/AbstractStringBuilder" "compareTo" "(Ljava/lang/AbstractStringBuilder;)I") ∈ lw_all := lw_g (lw_at lw_m10 53 rfl) rfl
theorem q2273 : (Jvm.Cond.sameMethod "java/lang/AbstractStringBuilder" "java/lang/AbstractStringBuilder" "append" "(C)Ljava/lang/AbstractStringBuilder;") ∈ lw_all := lw_g (lw_at lw_m10 54 rfl) rfl
theorem q2274 : (Jvm.Cond.sameMethod "java/lang/AbstractStringBuilder" "java/lang/AbstractStringBuilder" "append" "(Ljava/lang/CharSequence;)Ljava/lang/AbstractStringBuilder;") ∈ lw_all := lw_g (lw_at lw_m10 55 rfl) rfl
theorem q2276 : (Jvm.Cond.sameMethod "java/lang/AbstractStringBuilder" "java/lang/AbstractStringBuilder" "inflateIfNeededFor" "(Ljava/lang/AbstractStringBuilder;)V") ∈ lw_all := lw_g (lw_at lw_m10 57 rfl) rfl
theorem q2277 : (Jvm.Cond.sameMethod "java/lang/AbstractStringBuilder" "java/lang/AbstractStringBuilder" "appendChars" "(Ljava/lang/String;II)V") ∈ lw_all := lw_g (lw_at lw_m10 58 rfl) rfl
theorem q2278 : (Jvm.Cond.sameMethod "java/lang/AbstractStringBuilder" "java/lang/AbstractStringBuilder" "appendChars" "(Ljava/lang/CharSequence;II)V") ∈ lw_all := lw_g (lw_at lw_m10 59 rfl) rfl
/-! java/lang/StringBuilder -/
def RJ1 : String := "java/lang/StringBuilder"
def TJ1 : u_T := fun k => match k with
  | 0 => ("java/lang/AbstractStringBuilder", "value", "[B", false)
  | 1 => ("java/lang/AbstractStringBuilder", "coder", "B", false)
  | 2 => ("java/lang/AbstractStringBuilder", "maybeLatin1", "Z", false)
  | _ => ("java/lang/AbstractStringBuilder", "count", "I", false)
def tyJ1 : Nat → FieldType := fun k => match k with
  | 0 => .array .byte
  | 1 => .byte
  | 2 => .boolean
  | _ => .int
abbrev wsJ10 : List Cond := u_ws RJ1 TJ1 4
theorem nmJ1 : ∀ a, a < 4 → ∀ b, b < 4 → a ≠ b → (TJ1 a).2.1 ≠ (TJ1 b).2.1 := by decide +kernel
theorem tyJ1_ok : ∀ k, k < 4 → parseFieldDescriptor (TJ1 k).2.2.1 = some (tyJ1 k) := by decide +kernel
abbrev cJ1_init : ByteArray := prog_30_method_1_code
def yJ1_init : MethodName := ⟨RJ1, "<init>", "()V"⟩
abbrev cJ1_length : ByteArray := prog_30_method_93_code
def yJ1_length : MethodName := ⟨RJ1, "length", "()I"⟩
abbrev cJ1_charAt : ByteArray := prog_30_method_88_code
def yJ1_charAt : MethodName := ⟨RJ1, "charAt", "(I)C"⟩
abbrev cJ1_substring : ByteArray := prog_30_method_62_code
def yJ1_substring : MethodName := ⟨RJ1, "substring", "(II)Ljava/lang/String;"⟩
abbrev cJ1_append : ByteArray := prog_30_method_15_code
def yJ1_append : MethodName := ⟨RJ1, "append", "(I)Ljava/lang/StringBuilder;"⟩
abbrev cJ1_append_2 : ByteArray := prog_30_method_7_code
def yJ1_append_2 : MethodName := ⟨RJ1, "append", "(Ljava/lang/String;)Ljava/lang/StringBuilder;"⟩
abbrev cJ1_toString : ByteArray := prog_30_method_42_code
def yJ1_toString : MethodName := ⟨RJ1, "toString", "()Ljava/lang/String;"⟩
abbrev cJ1_setLength : ByteArray := prog_30_method_89_code
def yJ1_setLength : MethodName := ⟨RJ1, "setLength", "(I)V"⟩
abbrev cJ1_compareTo : ByteArray := prog_30_method_97_code
def yJ1_compareTo : MethodName := ⟨RJ1, "compareTo", "(Ljava/lang/Object;)I"⟩
abbrev cJ1_compareTo_2 : ByteArray := prog_30_method_5_code
def yJ1_compareTo_2 : MethodName := ⟨RJ1, "compareTo", "(Ljava/lang/StringBuilder;)I"⟩
abbrev cJ1_append_3 : ByteArray := prog_30_method_14_code
def yJ1_append_3 : MethodName := ⟨RJ1, "append", "(C)Ljava/lang/StringBuilder;"⟩
abbrev cJ1_append_4 : ByteArray := prog_30_method_9_code
def yJ1_append_4 : MethodName := ⟨RJ1, "append", "(Ljava/lang/CharSequence;)Ljava/lang/StringBuilder;"⟩
abbrev cJ1_append_5 : ByteArray := prog_30_method_80_code
def yJ1_append_5 : MethodName := ⟨RJ1, "append", "(Ljava/lang/String;)Ljava/lang/AbstractStringBuilder;"⟩
abbrev cJ1_append_6 : ByteArray := prog_30_method_77_code
def yJ1_append_6 : MethodName := ⟨RJ1, "append", "(Ljava/lang/CharSequence;II)Ljava/lang/AbstractStringBuilder;"⟩
abbrev cJ1_append_7 : ByteArray := prog_30_method_10_code
def yJ1_append_7 : MethodName := ⟨RJ1, "append", "(Ljava/lang/CharSequence;II)Ljava/lang/StringBuilder;"⟩
theorem q62 : (Jvm.Cond.initialized "java/lang/StringBuilder") ∈ lw_all := lw_g (lw_at lw_m1 3 rfl) rfl
theorem q114 : (Jvm.Cond.instantiable "java/lang/StringBuilder" (4 : Nat)) ∈ lw_all := lw_g (lw_at lw_m1 55 rfl) rfl
theorem q116 : (Jvm.Cond.instanceMethod ({ cls := "java/lang/StringBuilder", name := "<init>", desc := "()V" } : Jvm.MethodName)) ∈ lw_all := lw_g (lw_at lw_m1 57 rfl) rfl
theorem q117 : (Jvm.Cond.code ({ cls := "java/lang/StringBuilder", name := "<init>", desc := "()V" } : Jvm.MethodName) prog_30_method_1_code (1 : Nat) (Option.none : Option Jvm.ClassFile.FieldType)) ∈ lw_all := lw_g (lw_at lw_m1 58 rfl) rfl
theorem q118 : (Jvm.Cond.methodLink "java/lang/StringBuilder" (1 : Nat) ({ cls := "java/lang/AbstractStringBuilder", name := "<init>", desc := "(I)V" } : Jvm.MethodName)) ∈ lw_all := lw_g (lw_at lw_m1 59 rfl) rfl
theorem q136 : (Jvm.Cond.lays "java/lang/StringBuilder" "java/lang/AbstractStringBuilder" "value" "[B") ∈ lw_all := lw_g (lw_at lw_m1 77 rfl) rfl
theorem q138 : (Jvm.Cond.lays "java/lang/StringBuilder" "java/lang/AbstractStringBuilder" "coder" "B") ∈ lw_all := lw_g (lw_at lw_m1 79 rfl) rfl
theorem q140 : (Jvm.Cond.lays "java/lang/StringBuilder" "java/lang/AbstractStringBuilder" "maybeLatin1" "Z") ∈ lw_all := lw_g (lw_at lw_m1 81 rfl) rfl
theorem q142 : (Jvm.Cond.lays "java/lang/StringBuilder" "java/lang/AbstractStringBuilder" "count" "I") ∈ lw_all := lw_g (lw_at lw_m1 83 rfl) rfl
theorem q144 : (Jvm.Cond.superclass "java/lang/StringBuilder" "java/lang/AbstractStringBuilder") ∈ lw_all := lw_g (lw_at lw_m1 85 rfl) rfl
theorem q253 : (Jvm.Cond.instanceMethod ({ cls := "java/lang/StringBuilder", name := "length", desc := "()I" } : Jvm.MethodName)) ∈ lw_all := lw_g (lw_at lw_m1 194 rfl) rfl
theorem q254 : (Jvm.Cond.selects "java/lang/StringBuilder" ({ cls := "java/lang/StringBuilder", name := "length", desc := "()I" } : Jvm.MethodName) ({ cls := "java/lang/StringBuilder", name := "length", desc := "()I" } : Jvm.MethodName)) ∈ lw_all := lw_g (lw_at lw_m1 195 rfl) rfl
theorem q255 : (Jvm.Cond.code ({ cls := "java/lang/StringBuilder", name := "length", desc := "()I" } : Jvm.MethodName) prog_30_method_93_code (1 : Nat) (Option.some Jvm.ClassFile.FieldType.int)) ∈ lw_all := lw_g (lw_at lw_m1 196 rfl) rfl
theorem q256 : (Jvm.Cond.methodLink "java/lang/StringBuilder" (343 : Nat) ({ cls := "java/lang/AbstractStringBuilder", name := "length", desc := "()I" } : Jvm.MethodName)) ∈ lw_all := lw_g (lw_at lw_m1 197 rfl) rfl
theorem q260 : (Jvm.Cond.instanceMethod ({ cls := "java/lang/StringBuilder", name := "charAt", desc := "(I)C" } : Jvm.MethodName)) ∈ lw_all := lw_g (lw_at lw_m1 201 rfl) rfl
theorem q261 : (Jvm.Cond.selects "java/lang/StringBuilder" ({ cls := "java/lang/StringBuilder", name := "charAt", desc := "(I)C" } : Jvm.MethodName) ({ cls := "java/lang/StringBuilder", name := "charAt", desc := "(I)C" } : Jvm.MethodName)) ∈ lw_all := lw_g (lw_at lw_m1 202 rfl) rfl
theorem q262 : (Jvm.Cond.code ({ cls := "java/lang/StringBuilder", name := "charAt", desc := "(I)C" } : Jvm.MethodName) prog_30_method_88_code (2 : Nat) (Option.some Jvm.ClassFile.FieldType.char)) ∈ lw_all := lw_g (lw_at lw_m1 203 rfl) rfl
theorem q263 : (Jvm.Cond.methodLink "java/lang/StringBuilder" (329 : Nat) ({ cls := "java/lang/AbstractStringBuilder", name := "charAt", desc := "(I)C" } : Jvm.MethodName)) ∈ lw_all := lw_g (lw_at lw_m1 204 rfl) rfl
theorem q377 : (Jvm.Cond.instanceMethod ({ cls := "java/lang/StringBuilder", name := "substring", desc := "(II)Ljava/lang/String;" } : Jvm.MethodName)) ∈ lw_all := lw_g (lw_at lw_m2 78 rfl) rfl
theorem q378 : (Jvm.Cond.selects "java/lang/StringBuilder" ({ cls := "java/lang/StringBuilder", name := "substring", desc := "(II)Ljava/lang/String;" } : Jvm.MethodName) ({ cls := "java/lang/StringBuilder", name := "substring", desc := "(II)Ljava/lang/String;" } : Jvm.MethodName)) ∈ lw_all := lw_g (lw_at lw_m2 79 rfl) rfl
theorem q379 : (Jvm.Cond.code ({ cls := "java/lang/StringBuilder", name := "substring", desc := "(II)Ljava/lang/String;" } : Jvm.MethodName) prog_30_method_62_code (3 : Nat) (Option.some (Jvm.ClassFile.FieldType.object "java/lang/String"))) ∈ lw_all := lw_g (lw_at lw_m2 80 rfl) rfl
theorem q380 : (Jvm.Cond.methodLink "java/lang/StringBuilder" (252 : Nat) ({ cls := "java/lang/AbstractStringBuilder", name := "substring", desc := "(II)Ljava/lang/String;" } : Jvm.MethodName)) ∈ lw_all := lw_g (lw_at lw_m2 81 rfl) rfl
theorem q390 : (Jvm.Cond.selects "java/lang/StringBuilder" ({ cls := "java/lang/AbstractStringBuilder", name := "isLatin1", desc := "()Z" } : Jvm.MethodName) ({ cls := "java/lang/AbstractStringBuilder", name := "isLatin1", desc := "()Z" } : Jvm.MethodName)) ∈ lw_all := lw_g (lw_at lw_m2 91 rfl) rfl
theorem q421 : (Jvm.Cond.instanceMethod ({ cls := "java/lang/StringBuilder", name := "append", desc := "(I)Ljava/lang/StringBuilder;" } : Jvm.MethodName)) ∈ lw_all := lw_g (lw_at lw_m2 122 rfl) rfl
theorem q422 : (Jvm.Cond.selects "java/lang/StringBuilder" ({ cls := "java/lang/StringBuilder", name := "append", desc := "(I)Ljava/lang/StringBuilder;" } : Jvm.MethodName) ({ cls := "java/lang/StringBuilder", name := "append", desc := "(I)Ljava/lang/StringBuilder;" } : Jvm.MethodName)) ∈ lw_all := lw_g (lw_at lw_m2 123 rfl) rfl
theorem q423 : (Jvm.Cond.code ({ cls := "java/lang/StringBuilder", name := "append", desc := "(I)Ljava/lang/StringBuilder;" } : Jvm.MethodName) prog_30_method_15_code (2 : Nat) (Option.some (Jvm.ClassFile.FieldType.object "java/lang/StringBuilder"))) ∈ lw_all := lw_g (lw_at lw_m2 124 rfl) rfl
theorem q424 : (Jvm.Cond.methodLink "java/lang/StringBuilder" (53 : Nat) ({ cls := "java/lang/AbstractStringBuilder", name := "append", desc := "(I)Ljava/lang/AbstractStringBuilder;" } : Jvm.MethodName)) ∈ lw_all := lw_g (lw_at lw_m2 125 rfl) rfl
theorem q490 : (Jvm.Cond.instanceMethod ({ cls := "java/lang/StringBuilder", name := "append", desc := "(Ljava/lang/String;)Ljava/lang/StringBuilder;" } : Jvm.MethodName)) ∈ lw_all := lw_g (lw_at lw_m2 191 rfl) rfl
theorem q491 : (Jvm.Cond.selects "java/lang/StringBuilder" ({ cls := "java/lang/StringBuilder", name := "append", desc := "(Ljava/lang/String;)Ljava/lang/StringBuilder;" } : Jvm.MethodName) ({ cls := "java/lang/StringBuilder", name := "append", desc := "(Ljava/lang/String;)Ljava/lang/StringBuilder;" } : Jvm.MethodName)) ∈ lw_all := lw_g (lw_at lw_m2 192 rfl) rfl
theorem q492 : (Jvm.Cond.code ({ cls := "java/lang/StringBuilder", name := "append", desc := "(Ljava/lang/String;)Ljava/lang/StringBuilder;" } : Jvm.MethodName) prog_30_method_7_code (2 : Nat) (Option.some (Jvm.ClassFile.FieldType.object "java/lang/StringBuilder"))) ∈ lw_all := lw_g (lw_at lw_m2 193 rfl) rfl
theorem q493 : (Jvm.Cond.methodLink "java/lang/StringBuilder" (29 : Nat) ({ cls := "java/lang/AbstractStringBuilder", name := "append", desc := "(Ljava/lang/String;)Ljava/lang/AbstractStringBuilder;" } : Jvm.MethodName)) ∈ lw_all := lw_g (lw_at lw_m2 194 rfl) rfl
theorem q547 : (Jvm.Cond.instanceMethod ({ cls := "java/lang/StringBuilder", name := "toString", desc := "()Ljava/lang/String;" } : Jvm.MethodName)) ∈ lw_all := lw_g (lw_at lw_m3 8 rfl) rfl
theorem q548 : (Jvm.Cond.selects "java/lang/StringBuilder" ({ cls := "java/lang/StringBuilder", name := "toString", desc := "()Ljava/lang/String;" } : Jvm.MethodName) ({ cls := "java/lang/StringBuilder", name := "toString", desc := "()Ljava/lang/String;" } : Jvm.MethodName)) ∈ lw_all := lw_g (lw_at lw_m3 9 rfl) rfl
theorem q549 : (Jvm.Cond.code ({ cls := "java/lang/StringBuilder", name := "toString", desc := "()Ljava/lang/String;" } : Jvm.MethodName) prog_30_method_42_code (1 : Nat) (Option.some (Jvm.ClassFile.FieldType.object "java/lang/String"))) ∈ lw_all := lw_g (lw_at lw_m3 10 rfl) rfl
theorem q550 : (Jvm.Cond.classLink "java/lang/StringBuilder" (18 : Nat) "java/lang/String") ∈ lw_all := lw_g (lw_at lw_m3 11 rfl) rfl
theorem q551 : (Jvm.Cond.methodLink "java/lang/StringBuilder" (137 : Nat) ({ cls := "java/lang/String", name := "<init>", desc := "(Ljava/lang/StringBuilder;)V" } : Jvm.MethodName)) ∈ lw_all := lw_g (lw_at lw_m3 12 rfl) rfl
theorem q561 : (Jvm.Cond.selects "java/lang/StringBuilder" ({ cls := "java/lang/AbstractStringBuilder", name := "getValue", desc := "()[B" } : Jvm.MethodName) ({ cls := "java/lang/AbstractStringBuilder", name := "getValue", desc := "()[B" } : Jvm.MethodName)) ∈ lw_all := lw_g (lw_at lw_m3 22 rfl) rfl
theorem q873 : (Jvm.Cond.selects "java/lang/StringBuilder" ({ cls := "java/lang/Object", name := "getClass", desc := "()Ljava/lang/Class;" } : Jvm.MethodName) ({ cls := "java/lang/Object", name := "getClass", desc := "()Ljava/lang/Class;" } : Jvm.MethodName)) ∈ lw_all := lw_g (lw_at lw_m4 94 rfl) rfl
theorem q893 : (Jvm.Cond.instanceMethod ({ cls := "java/lang/StringBuilder", name := "setLength", desc := "(I)V" } : Jvm.MethodName)) ∈ lw_all := lw_g (lw_at lw_m4 114 rfl) rfl
theorem q894 : (Jvm.Cond.selects "java/lang/StringBuilder" ({ cls := "java/lang/StringBuilder", name := "setLength", desc := "(I)V" } : Jvm.MethodName) ({ cls := "java/lang/StringBuilder", name := "setLength", desc := "(I)V" } : Jvm.MethodName)) ∈ lw_all := lw_g (lw_at lw_m4 115 rfl) rfl
theorem q895 : (Jvm.Cond.code ({ cls := "java/lang/StringBuilder", name := "setLength", desc := "(I)V" } : Jvm.MethodName) prog_30_method_89_code (2 : Nat) (Option.none : Option Jvm.ClassFile.FieldType)) ∈ lw_all := lw_g (lw_at lw_m4 116 rfl) rfl
theorem q896 : (Jvm.Cond.methodLink "java/lang/StringBuilder" (333 : Nat) ({ cls := "java/lang/AbstractStringBuilder", name := "setLength", desc := "(I)V" } : Jvm.MethodName)) ∈ lw_all := lw_g (lw_at lw_m4 117 rfl) rfl
theorem q1154 : (Jvm.Cond.castable "java/lang/StringBuilder" "java/lang/Comparable") ∈ lw_tbl := lw_at lw_m5 135 rfl
theorem q1155 : (Jvm.Cond.selects "java/lang/StringBuilder" ({ cls := "java/lang/Comparable", name := "compareTo", desc := "(Ljava/lang/Object;)I" } : Jvm.MethodName) ({ cls := "java/lang/StringBuilder", name := "compareTo", desc := "(Ljava/lang/Object;)I" } : Jvm.MethodName)) ∈ lw_all := lw_g (lw_at lw_m5 136 rfl) rfl
theorem q1156 : (Jvm.Cond.unhidden "java/lang/StringBuilder" "compareTo" "(Ljava/lang/Object;)I") ∈ lw_tbl := lw_at lw_m5 137 rfl
theorem q1157 : (Jvm.Cond.instanceMethod ({ cls := "java/lang/StringBuilder", name := "compareTo", desc := "(Ljava/lang/Object;)I" } : Jvm.MethodName)) ∈ lw_all := lw_g (lw_at lw_m5 138 rfl) rfl
theorem q1158 : (Jvm.Cond.publicMethod ({ cls := "java/lang/StringBuilder", name := "compareTo", desc := "(Ljava/lang/Object;)I" } : Jvm.MethodName)) ∈ lw_tbl := lw_at lw_m5 139 rfl
theorem q1159 : (Jvm.Cond.code ({ cls := "java/lang/StringBuilder", name := "compareTo", desc := "(Ljava/lang/Object;)I" } : Jvm.MethodName) prog_30_method_97_code (2 : Nat) (Option.some Jvm.ClassFile.FieldType.int)) ∈ lw_all := lw_g (lw_at lw_m5 140 rfl) rfl
theorem q1160 : (Jvm.Cond.classLink "java/lang/StringBuilder" (24 : Nat) "java/lang/StringBuilder") ∈ lw_all := lw_g (lw_at lw_m5 141 rfl) rfl
theorem q1161 : (Jvm.Cond.methodLink "java/lang/StringBuilder" (346 : Nat) ({ cls := "java/lang/StringBuilder", name := "compareTo", desc := "(Ljava/lang/StringBuilder;)I" } : Jvm.MethodName)) ∈ lw_all := lw_g (lw_at lw_m5 142 rfl) rfl
theorem q1162 : (Jvm.Cond.instanceMethod ({ cls := "java/lang/StringBuilder", name := "compareTo", desc := "(Ljava/lang/StringBuilder;)I" } : Jvm.MethodName)) ∈ lw_all := lw_g (lw_at lw_m5 143 rfl) rfl
theorem q1163 : (Jvm.Cond.selects "java/lang/StringBuilder" ({ cls := "java/lang/StringBuilder", name := "compareTo", desc := "(Ljava/lang/StringBuilder;)I" } : Jvm.MethodName) ({ cls := "java/lang/StringBuilder", name := "compareTo", desc := "(Ljava/lang/StringBuilder;)I" } : Jvm.MethodName)) ∈ lw_all := lw_g (lw_at lw_m5 144 rfl) rfl
theorem q1164 : (Jvm.Cond.code ({ cls := "java/lang/StringBuilder", name := "compareTo", desc := "(Ljava/lang/StringBuilder;)I" } : Jvm.MethodName) prog_30_method_5_code (2 : Nat) (Option.some Jvm.ClassFile.FieldType.int)) ∈ lw_all := lw_g (lw_at lw_m5 145 rfl) rfl
theorem q1165 : (Jvm.Cond.methodLink "java/lang/StringBuilder" (13 : Nat) ({ cls := "java/lang/AbstractStringBuilder", name := "compareTo", desc := "(Ljava/lang/AbstractStringBuilder;)I" } : Jvm.MethodName)) ∈ lw_all := lw_g (lw_at lw_m5 146 rfl) rfl
theorem q1219 : (Jvm.Cond.instanceMethod ({ cls := "java/lang/StringBuilder", name := "append", desc := "(C)Ljava/lang/StringBuilder;" } : Jvm.MethodName)) ∈ lw_all := lw_g (lw_at lw_m5 200 rfl) rfl
theorem q1220 : (Jvm.Cond.selects "java/lang/StringBuilder" ({ cls := "java/lang/StringBuilder", name := "append", desc := "(C)Ljava/lang/StringBuilder;" } : Jvm.MethodName) ({ cls := "java/lang/StringBuilder", name := "append", desc := "(C)Ljava/lang/StringBuilder;" } : Jvm.MethodName)) ∈ lw_all := lw_g (lw_at lw_m5 201 rfl) rfl
theorem q1221 : (Jvm.Cond.code ({ cls := "java/lang/StringBuilder", name := "append", desc := "(C)Ljava/lang/StringBuilder;" } : Jvm.MethodName) prog_30_method_14_code (2 : Nat) (Option.some (Jvm.ClassFile.FieldType.object "java/lang/StringBuilder"))) ∈ lw_all := lw_g (lw_at lw_m5 202 rfl) rfl
theorem q1222 : (Jvm.Cond.methodLink "java/lang/StringBuilder" (50 : Nat) ({ cls := "java/lang/AbstractStringBuilder", name := "append", desc := "(C)Ljava/lang/AbstractStringBuilder;" } : Jvm.MethodName)) ∈ lw_all := lw_g (lw_at lw_m5 203 rfl) rfl
theorem q1528 : (Jvm.Cond.instanceMethod ({ cls := "java/lang/StringBuilder", name := "append", desc := "(Ljava/lang/CharSequence;)Ljava/lang/StringBuilder;" } : Jvm.MethodName)) ∈ lw_all := lw_g (lw_at lw_m7 29 rfl) rfl
theorem q1529 : (Jvm.Cond.selects "java/lang/StringBuilder" ({ cls := "java/lang/StringBuilder", name := "append", desc := "(Ljava/lang/CharSequence;)Ljava/lang/StringBuilder;" } : Jvm.MethodName) ({ cls := "java/lang/StringBuilder", name := "append", desc := "(Ljava/lang/CharSequence;)Ljava/lang/StringBuilder;" } : Jvm.MethodName)) ∈ lw_all := lw_g (lw_at lw_m7 30 rfl) rfl
theorem q1530 : (Jvm.Cond.code ({ cls := "java/lang/StringBuilder", name := "append", desc := "(Ljava/lang/CharSequence;)Ljava/lang/StringBuilder;" } : Jvm.MethodName) prog_30_method_9_code (2 : Nat) (Option.some (Jvm.ClassFile.FieldType.object "java/lang/StringBuilder"))) ∈ lw_all := lw_g (lw_at lw_m7 31 rfl) rfl
theorem q1531 : (Jvm.Cond.methodLink "java/lang/StringBuilder" (35 : Nat) ({ cls := "java/lang/AbstractStringBuilder", name := "append", desc := "(Ljava/lang/CharSequence;)Ljava/lang/AbstractStringBuilder;" } : Jvm.MethodName)) ∈ lw_all := lw_g (lw_at lw_m7 32 rfl) rfl
theorem q1536 : (Jvm.Cond.instanceMethod ({ cls := "java/lang/StringBuilder", name := "append", desc := "(Ljava/lang/String;)Ljava/lang/AbstractStringBuilder;" } : Jvm.MethodName)) ∈ lw_all := lw_g (lw_at lw_m7 37 rfl) rfl
theorem q1537 : (Jvm.Cond.code ({ cls := "java/lang/StringBuilder", name := "append", desc := "(Ljava/lang/String;)Ljava/lang/AbstractStringBuilder;" } : Jvm.MethodName) prog_30_method_80_code (2 : Nat) (Option.some (Jvm.ClassFile.FieldType.object "java/lang/AbstractStringBuilder"))) ∈ lw_all := lw_g (lw_at lw_m7 38 rfl) rfl
theorem q1538 : (Jvm.Cond.methodLink "java/lang/StringBuilder" (23 : Nat) ({ cls := "java/lang/StringBuilder", name := "append", desc := "(Ljava/lang/String;)Ljava/lang/StringBuilder;" } : Jvm.MethodName)) ∈ lw_all := lw_g (lw_at lw_m7 39 rfl) rfl
theorem q1543 : (Jvm.Cond.selects "java/lang/StringBuilder" ({ cls := "java/lang/AbstractStringBuilder", name := "append", desc := "(Ljava/lang/AbstractStringBuilder;)Ljava/lang/AbstractStringBuilder;" } : Jvm.MethodName) ({ cls := "java/lang/AbstractStringBuilder", name := "append", desc := "(Ljava/lang/AbstractStringBuilder;)Ljava/lang/AbstractStringBuilder;" } : Jvm.MethodName)) ∈ lw_all := lw_g (lw_at lw_m7 44 rfl) rfl
theorem q1553 : (Jvm.Cond.selects "java/lang/StringBuilder" ({ cls := "java/lang/AbstractStringBuilder", name := "getCoder", desc := "()B" } : Jvm.MethodName) ({ cls := "java/lang/AbstractStringBuilder", name := "getCoder", desc := "()B" } : Jvm.MethodName)) ∈ lw_all := lw_g (lw_at lw_m7 54 rfl) rfl
theorem q1558 : (Jvm.Cond.selects "java/lang/StringBuilder" ({ cls := "java/lang/AbstractStringBuilder", name := "getBytes", desc := "([BIB)V" } : Jvm.MethodName) ({ cls := "java/lang/AbstractStringBuilder", name := "getBytes", desc := "([BIB)V" } : Jvm.MethodName)) ∈ lw_all := lw_g (lw_at lw_m7 59 rfl) rfl
theorem q1569 : (Jvm.Cond.castable "java/lang/StringBuilder" "java/lang/CharSequence") ∈ lw_tbl := lw_at lw_m7 70 rfl
theorem q1570 : (Jvm.Cond.selects "java/lang/StringBuilder" ({ cls := "java/lang/CharSequence", name := "length", desc := "()I" } : Jvm.MethodName) ({ cls := "java/lang/StringBuilder", name := "length", desc := "()I" } : Jvm.MethodName)) ∈ lw_all := lw_g (lw_at lw_m7 71 rfl) rfl
theorem q1571 : (Jvm.Cond.unhidden "java/lang/StringBuilder" "length" "()I") ∈ lw_tbl := lw_at lw_m7 72 rfl
theorem q1572 : (Jvm.Cond.publicMethod ({ cls := "java/lang/StringBuilder", name := "length", desc := "()I" } : Jvm.MethodName)) ∈ lw_tbl := lw_at lw_m7 73 rfl
theorem q1576 : (Jvm.Cond.selects "java/lang/StringBuilder" ({ cls := "java/lang/AbstractStringBuilder", name := "append", desc := "(Ljava/lang/CharSequence;II)Ljava/lang/AbstractStringBuilder;" } : Jvm.MethodName) ({ cls := "java/lang/StringBuilder", name := "append", desc := "(Ljava/lang/CharSequence;II)Ljava/lang/AbstractStringBuilder;" } : Jvm.MethodName)) ∈ lw_all := lw_g (lw_at lw_m7 77 rfl) rfl
theorem q1577 : (Jvm.Cond.instanceMethod ({ cls := "java/lang/StringBuilder", name := "append", desc := "(Ljava/lang/CharSequence;II)Ljava/lang/AbstractStringBuilder;" } : Jvm.MethodName)) ∈ lw_all := lw_g (lw_at lw_m7 78 rfl) rfl
theorem q1578 : (Jvm.Cond.code ({ cls := "java/lang/StringBuilder", name := "append", desc := "(Ljava/lang/CharSequence;II)Ljava/lang/AbstractStringBuilder;" } : Jvm.MethodName) prog_30_method_77_code (4 : Nat) (Option.some (Jvm.ClassFile.FieldType.object "java/lang/AbstractStringBuilder"))) ∈ lw_all := lw_g (lw_at lw_m7 79 rfl) rfl
theorem q1579 : (Jvm.Cond.methodLink "java/lang/StringBuilder" (296 : Nat) ({ cls := "java/lang/StringBuilder", name := "append", desc := "(Ljava/lang/CharSequence;II)Ljava/lang/StringBuilder;" } : Jvm.MethodName)) ∈ lw_all := lw_g (lw_at lw_m7 80 rfl) rfl
theorem q1580 : (Jvm.Cond.instanceMethod ({ cls := "java/lang/StringBuilder", name := "append", desc := "(Ljava/lang/CharSequence;II)Ljava/lang/StringBuilder;" } : Jvm.MethodName)) ∈ lw_all := lw_g (lw_at lw_m7 81 rfl) rfl
theorem q1581 : (Jvm.Cond.selects "java/lang/StringBuilder" ({ cls := "java/lang/StringBuilder", name := "append", desc := "(Ljava/lang/CharSequence;II)Ljava/lang/StringBuilder;" } : Jvm.MethodName) ({ cls := "java/lang/StringBuilder", name := "append", desc := "(Ljava/lang/CharSequence;II)Ljava/lang/StringBuilder;" } : Jvm.MethodName)) ∈ lw_all := lw_g (lw_at lw_m7 82 rfl) rfl
theorem q1582 : (Jvm.Cond.code ({ cls := "java/lang/StringBuilder", name := "append", desc := "(Ljava/lang/CharSequence;II)Ljava/lang/StringBuilder;" } : Jvm.MethodName) prog_30_method_10_code (4 : Nat) (Option.some (Jvm.ClassFile.FieldType.object "java/lang/StringBuilder"))) ∈ lw_all := lw_g (lw_at lw_m7 83 rfl) rfl
theorem q1583 : (Jvm.Cond.methodLink "java/lang/StringBuilder" (38 : Nat) ({ cls := "java/lang/AbstractStringBuilder", name := "append", desc := "(Ljava/lang/CharSequence;II)Ljava/lang/AbstractStringBuilder;" } : Jvm.MethodName)) ∈ lw_all := lw_g (lw_at lw_m7 84 rfl) rfl
theorem q1608 : (Jvm.Cond.selects "java/lang/StringBuilder" ({ cls := "java/lang/CharSequence", name := "charAt", desc := "(I)C" } : Jvm.MethodName) ({ cls := "java/lang/StringBuilder", name := "charAt", desc := "(I)C" } : Jvm.MethodName)) ∈ lw_all := lw_g (lw_at lw_m7 109 rfl) rfl
theorem q1609 : (Jvm.Cond.unhidden "java/lang/StringBuilder" "charAt" "(I)C") ∈ lw_tbl := lw_at lw_m7 110 rfl
theorem q1610 : (Jvm.Cond.publicMethod ({ cls := "java/lang/StringBuilder", name := "charAt", desc := "(I)C" } : Jvm.MethodName)) ∈ lw_tbl := lw_at lw_m7 111 rfl
theorem q2270 : (Jvm.Cond.selects "java/lang/StringBuilder" ({ cls := "java/lang/AbstractStringBuilder", name := "length", desc := "()I" } : Jvm.MethodName) ({ cls := "java/lang/StringBuilder", name := "length", desc := "()I" } : Jvm.MethodName)) ∈ lw_all := lw_g (lw_at lw_m10 51 rfl) rfl
theorem q2275 : (Jvm.Cond.selects "java/lang/StringBuilder" ({ cls := "java/lang/AbstractStringBuilder", name := "append", desc := "(Ljava/lang/String;)Ljava/lang/AbstractStringBuilder;" } : Jvm.MethodName) ({ cls := "java/lang/StringBuilder", name := "append", desc := "(Ljava/lang/String;)Ljava/lang/AbstractStringBuilder;" } : Jvm.MethodName)) ∈ lw_all := lw_g (lw_at lw_m10 56 rfl) rfl
theorem q2280 : (Jvm.Cond.castable "java/lang/StringBuilder" "java/lang/AbstractStringBuilder") ∈ lw_tbl := lw_at lw_m10 61 rfl
theorem q2287 : (Jvm.Cond.castable "java/lang/StringBuilder" "java/lang/Object") ∈ lw_tbl := lw_at lw_m10 68 rfl
theorem in_J1 : ∀ w ∈ wsJ10, w ∈ lw_all := lw_in wsJ10 [136, 138, 140, 142] (by decide +kernel) (by decide +kernel)
/-! java/lang/String -/
def RJ2 : String := "java/lang/String"
def TJ2 : u_T := fun k => match k with
  | 0 => ("java/lang/String", "value", "[B", true)
  | 1 => ("java/lang/String", "coder", "B", true)
  | 2 => ("java/lang/String", "hash", "I", false)
  | _ => ("java/lang/String", "hashIsZero", "Z", false)
def tyJ2 : Nat → FieldType := fun k => match k with
  | 0 => .array .byte
  | 1 => .byte
  | 2 => .int
  | _ => .boolean
abbrev wsJ20 : List Cond := u_ws RJ2 TJ2 4
theorem nmJ2 : ∀ a, a < 4 → ∀ b, b < 4 → a ≠ b → (TJ2 a).2.1 ≠ (TJ2 b).2.1 := by decide +kernel
theorem tyJ2_ok : ∀ k, k < 4 → parseFieldDescriptor (TJ2 k).2.2.1 = some (tyJ2 k) := by decide +kernel
abbrev cJ2_checkIndex : ByteArray := prog_29_method_155_code
def yJ2_checkIndex : MethodName := ⟨RJ2, "checkIndex", "(II)V"⟩
abbrev cJ2_checkBoundsBeginEnd : ByteArray := prog_29_method_158_code
def yJ2_checkBoundsBeginEnd : MethodName := ⟨RJ2, "checkBoundsBeginEnd", "(III)V"⟩
abbrev cJ2_length : ByteArray := prog_29_method_54_code
def yJ2_length : MethodName := ⟨RJ2, "length", "()I"⟩
abbrev cJ2_coder : ByteArray := prog_29_method_152_code
def yJ2_coder : MethodName := ⟨RJ2, "coder", "()B"⟩
abbrev cJ2_checkBoundsOffCount : ByteArray := prog_29_method_157_code
def yJ2_checkBoundsOffCount : MethodName := ⟨RJ2, "checkBoundsOffCount", "(III)I"⟩
abbrev cJ2_getBytes : ByteArray := prog_29_method_147_code
def yJ2_getBytes : MethodName := ⟨RJ2, "getBytes", "([BIB)V"⟩
abbrev cJ2_init : ByteArray := prog_29_method_53_code
def yJ2_init : MethodName := ⟨RJ2, "<init>", "(Ljava/lang/StringBuilder;)V"⟩
abbrev cJ2_init_2 : ByteArray := prog_29_method_150_code
def yJ2_init_2 : MethodName := ⟨RJ2, "<init>", "(Ljava/lang/AbstractStringBuilder;Ljava/lang/Void;)V"⟩
abbrev cJ2_init_3 : ByteArray := prog_29_method_151_code
def yJ2_init_3 : MethodName := ⟨RJ2, "<init>", "([BB)V"⟩
abbrev cJ2_equals : ByteArray := prog_29_method_66_code
def yJ2_equals : MethodName := ⟨RJ2, "equals", "(Ljava/lang/Object;)Z"⟩
abbrev cJ2_indexOf : ByteArray := prog_29_method_79_code
def yJ2_indexOf : MethodName := ⟨RJ2, "indexOf", "(I)I"⟩
abbrev cJ2_indexOf_2 : ByteArray := prog_29_method_80_code
def yJ2_indexOf_2 : MethodName := ⟨RJ2, "indexOf", "(II)I"⟩
abbrev cJ2_isLatin1 : ByteArray := prog_29_method_154_code
def yJ2_isLatin1 : MethodName := ⟨RJ2, "isLatin1", "()Z"⟩
abbrev cJ2_compareTo : ByteArray := prog_29_method_162_code
def yJ2_compareTo : MethodName := ⟨RJ2, "compareTo", "(Ljava/lang/Object;)I"⟩
abbrev cJ2_compareTo_2 : ByteArray := prog_29_method_71_code
def yJ2_compareTo_2 : MethodName := ⟨RJ2, "compareTo", "(Ljava/lang/String;)I"⟩
abbrev cJ2_checkOffset : ByteArray := prog_29_method_156_code
def yJ2_checkOffset : MethodName := ⟨RJ2, "checkOffset", "(II)V"⟩
abbrev cJ2_charAt : ByteArray := prog_29_method_56_code
def yJ2_charAt : MethodName := ⟨RJ2, "charAt", "(I)C"⟩
abbrev cJ2_value : ByteArray := prog_29_method_153_code
def yJ2_value : MethodName := ⟨RJ2, "value", "()[B"⟩
theorem q63 : (Jvm.Cond.initialized "java/lang/String") ∈ lw_all := lw_g (lw_at lw_m1 4 rfl) rfl
theorem q123 : (Jvm.Cond.laysStatic "java/lang/String" "COMPACT_STRINGS" "Z") ∈ lw_tbl := lw_at lw_m1 64 rfl
theorem q134 : (Jvm.Cond.fieldLink "java/lang/String" (1048 : Nat) "java/lang/AbstractStringBuilder" "maybeLatin1" "Z") ∈ lw_all := lw_g (lw_at lw_m1 75 rfl) rfl
theorem q270 : (Jvm.Cond.static ({ cls := "java/lang/String", name := "checkIndex", desc := "(II)V" } : Jvm.MethodName)) ∈ lw_all := lw_g (lw_at lw_m1 211 rfl) rfl
theorem q271 : (Jvm.Cond.code ({ cls := "java/lang/String", name := "checkIndex", desc := "(II)V" } : Jvm.MethodName) prog_29_method_155_code (2 : Nat) (Option.none : Option Jvm.ClassFile.FieldType)) ∈ lw_all := lw_g (lw_at lw_m1 212 rfl) rfl
theorem q272 : (Jvm.Cond.fieldLink "java/lang/String" (1053 : Nat) "jdk/internal/util/Preconditions" "SIOOBE_FORMATTER" "Ljava/util/function/BiFunction;") ∈ lw_all := lw_g (lw_at lw_m1 213 rfl) rfl
theorem q274 : (Jvm.Cond.methodLink "java/lang/String" (1059 : Nat) ({ cls := "jdk/internal/util/Preconditions", name := "checkIndex", desc := "(IILjava/util/function/BiFunction;)I" } : Jvm.MethodName)) ∈ lw_all := lw_g (lw_at lw_m1 215 rfl) rfl
theorem q397 : (Jvm.Cond.instantiable "java/lang/String" (4 : Nat)) ∈ lw_all := lw_g (lw_at lw_m2 98 rfl) rfl
theorem q477 : (Jvm.Cond.static ({ cls := "java/lang/String", name := "checkBoundsBeginEnd", desc := "(III)V" } : Jvm.MethodName)) ∈ lw_all := lw_g (lw_at lw_m2 178 rfl) rfl
theorem q478 : (Jvm.Cond.code ({ cls := "java/lang/String", name := "checkBoundsBeginEnd", desc := "(III)V" } : Jvm.MethodName) prog_29_method_158_code (3 : Nat) (Option.none : Option Jvm.ClassFile.FieldType)) ∈ lw_all := lw_g (lw_at lw_m2 179 rfl) rfl
theorem q479 : (Jvm.Cond.methodLink "java/lang/String" (1062 : Nat) ({ cls := "jdk/internal/util/Preconditions", name := "checkFromToIndex", desc := "(IIILjava/util/function/BiFunction;)I" } : Jvm.MethodName)) ∈ lw_all := lw_g (lw_at lw_m2 180 rfl) rfl
theorem q504 : (Jvm.Cond.instanceMethod ({ cls := "java/lang/String", name := "length", desc := "()I" } : Jvm.MethodName)) ∈ lw_all := lw_g (lw_at lw_m2 205 rfl) rfl
theorem q505 : (Jvm.Cond.selects "java/lang/String" ({ cls := "java/lang/String", name := "length", desc := "()I" } : Jvm.MethodName) ({ cls := "java/lang/String", name := "length", desc := "()I" } : Jvm.MethodName)) ∈ lw_all := lw_g (lw_at lw_m2 206 rfl) rfl
theorem q506 : (Jvm.Cond.code ({ cls := "java/lang/String", name := "length", desc := "()I" } : Jvm.MethodName) prog_29_method_54_code (1 : Nat) (Option.some Jvm.ClassFile.FieldType.int)) ∈ lw_all := lw_g (lw_at lw_m2 207 rfl) rfl
theorem q507 : (Jvm.Cond.methodLink "java/lang/String" (335 : Nat) ({ cls := "java/lang/String", name := "coder", desc := "()B" } : Jvm.MethodName)) ∈ lw_all := lw_g (lw_at lw_m2 208 rfl) rfl
theorem q508 : (Jvm.Cond.instanceMethod ({ cls := "java/lang/String", name := "coder", desc := "()B" } : Jvm.MethodName)) ∈ lw_all := lw_g (lw_at lw_m2 209 rfl) rfl
theorem q509 : (Jvm.Cond.selects "java/lang/String" ({ cls := "java/lang/String", name := "coder", desc := "()B" } : Jvm.MethodName) ({ cls := "java/lang/String", name := "coder", desc := "()B" } : Jvm.MethodName)) ∈ lw_all := lw_g (lw_at lw_m2 210 rfl) rfl
theorem q510 : (Jvm.Cond.code ({ cls := "java/lang/String", name := "coder", desc := "()B" } : Jvm.MethodName) prog_29_method_152_code (1 : Nat) (Option.some Jvm.ClassFile.FieldType.byte)) ∈ lw_all := lw_g (lw_at lw_m2 211 rfl) rfl
theorem q511 : (Jvm.Cond.fieldLink "java/lang/String" (38 : Nat) "java/lang/String" "COMPACT_STRINGS" "Z") ∈ lw_all := lw_g (lw_at lw_m2 212 rfl) rfl
theorem q535 : (Jvm.Cond.static ({ cls := "java/lang/String", name := "checkBoundsOffCount", desc := "(III)I" } : Jvm.MethodName)) ∈ lw_all := lw_g (lw_at lw_m2 236 rfl) rfl
theorem q536 : (Jvm.Cond.code ({ cls := "java/lang/String", name := "checkBoundsOffCount", desc := "(III)I" } : Jvm.MethodName) prog_29_method_157_code (3 : Nat) (Option.some Jvm.ClassFile.FieldType.int)) ∈ lw_all := lw_g (lw_at lw_m2 237 rfl) rfl
theorem q537 : (Jvm.Cond.methodLink "java/lang/String" (1065 : Nat) ({ cls := "jdk/internal/util/Preconditions", name := "checkFromIndexSize", desc := "(IIILjava/util/function/BiFunction;)I" } : Jvm.MethodName)) ∈ lw_all := lw_g (lw_at lw_m2 238 rfl) rfl
theorem q541 : (Jvm.Cond.instanceMethod ({ cls := "java/lang/String", name := "getBytes", desc := "([BIB)V" } : Jvm.MethodName)) ∈ lw_all := lw_g (lw_at lw_m3 2 rfl) rfl
theorem q542 : (Jvm.Cond.selects "java/lang/String" ({ cls := "java/lang/String", name := "getBytes", desc := "([BIB)V" } : Jvm.MethodName) ({ cls := "java/lang/String", name := "getBytes", desc := "([BIB)V" } : Jvm.MethodName)) ∈ lw_all := lw_g (lw_at lw_m3 3 rfl) rfl
theorem q543 : (Jvm.Cond.code ({ cls := "java/lang/String", name := "getBytes", desc := "([BIB)V" } : Jvm.MethodName) prog_29_method_147_code (4 : Nat) (Option.none : Option Jvm.ClassFile.FieldType)) ∈ lw_all := lw_g (lw_at lw_m3 4 rfl) rfl
theorem q544 : (Jvm.Cond.methodLink "java/lang/String" (212 : Nat) ({ cls := "java/lang/System", name := "arraycopy", desc := "(Ljava/lang/Object;ILjava/lang/Object;II)V" } : Jvm.MethodName)) ∈ lw_all := lw_g (lw_at lw_m3 5 rfl) rfl
theorem q545 : (Jvm.Cond.methodLink "java/lang/String" (106 : Nat) ({ cls := "java/lang/StringLatin1", name := "inflate", desc := "([BI[BII)V" } : Jvm.MethodName)) ∈ lw_all := lw_g (lw_at lw_m3 6 rfl) rfl
theorem q552 : (Jvm.Cond.instanceMethod ({ cls := "java/lang/String", name := "<init>", desc := "(Ljava/lang/StringBuilder;)V" } : Jvm.MethodName)) ∈ lw_all := lw_g (lw_at lw_m3 13 rfl) rfl
theorem q553 : (Jvm.Cond.code ({ cls := "java/lang/String", name := "<init>", desc := "(Ljava/lang/StringBuilder;)V" } : Jvm.MethodName) prog_29_method_53_code (2 : Nat) (Option.none : Option Jvm.ClassFile.FieldType)) ∈ lw_all := lw_g (lw_at lw_m3 14 rfl) rfl
theorem q554 : (Jvm.Cond.methodLink "java/lang/String" (489 : Nat) ({ cls := "java/lang/String", name := "<init>", desc := "(Ljava/lang/AbstractStringBuilder;Ljava/lang/Void;)V" } : Jvm.MethodName)) ∈ lw_all := lw_g (lw_at lw_m3 15 rfl) rfl
theorem q555 : (Jvm.Cond.instanceMethod ({ cls := "java/lang/String", name := "<init>", desc := "(Ljava/lang/AbstractStringBuilder;Ljava/lang/Void;)V" } : Jvm.MethodName)) ∈ lw_all := lw_g (lw_at lw_m3 16 rfl) rfl
theorem q556 : (Jvm.Cond.code ({ cls := "java/lang/String", name := "<init>", desc := "(Ljava/lang/AbstractStringBuilder;Ljava/lang/Void;)V" } : Jvm.MethodName) prog_29_method_150_code (5 : Nat) (Option.none : Option Jvm.ClassFile.FieldType)) ∈ lw_all := lw_g (lw_at lw_m3 17 rfl) rfl
theorem q557 : (Jvm.Cond.methodLink "java/lang/String" (1 : Nat) ({ cls := "java/lang/Object", name := "<init>", desc := "()V" } : Jvm.MethodName)) ∈ lw_all := lw_g (lw_at lw_m3 18 rfl) rfl
theorem q558 : (Jvm.Cond.methodLink "java/lang/String" (552 : Nat) ({ cls := "java/lang/AbstractStringBuilder", name := "getValue", desc := "()[B" } : Jvm.MethodName)) ∈ lw_all := lw_g (lw_at lw_m3 19 rfl) rfl
theorem q563 : (Jvm.Cond.methodLink "java/lang/String" (549 : Nat) ({ cls := "java/lang/AbstractStringBuilder", name := "length", desc := "()I" } : Jvm.MethodName)) ∈ lw_all := lw_g (lw_at lw_m3 24 rfl) rfl
theorem q564 : (Jvm.Cond.methodLink "java/lang/String" (1047 : Nat) ({ cls := "java/lang/AbstractStringBuilder", name := "isLatin1", desc := "()Z" } : Jvm.MethodName)) ∈ lw_all := lw_g (lw_at lw_m3 25 rfl) rfl
theorem q565 : (Jvm.Cond.methodLink "java/lang/String" (54 : Nat) ({ cls := "java/util/Arrays", name := "copyOfRange", desc := "([BII)[B" } : Jvm.MethodName)) ∈ lw_all := lw_g (lw_at lw_m3 26 rfl) rfl
theorem q566 : (Jvm.Cond.methodLink "java/lang/String" (1051 : Nat) ({ cls := "java/lang/StringUTF16", name := "compress", desc := "([BII)[B" } : Jvm.MethodName)) ∈ lw_all := lw_g (lw_at lw_m3 27 rfl) rfl
theorem q574 : (Jvm.Cond.methodLink "java/lang/String" (47 : Nat) ({ cls := "java/lang/StringUTF16", name := "coderFromArrayLen", desc := "([BI)B" } : Jvm.MethodName)) ∈ lw_all := lw_g (lw_at lw_m3 35 rfl) rfl
theorem q577 : (Jvm.Cond.fieldLink "java/lang/String" (9 : Nat) "java/lang/String" "value" "[B") ∈ lw_all := lw_g (lw_at lw_m3 38 rfl) rfl
theorem q578 : (Jvm.Cond.fieldLink "java/lang/String" (15 : Nat) "java/lang/String" "coder" "B") ∈ lw_all := lw_g (lw_at lw_m3 39 rfl) rfl
theorem q579 : (Jvm.Cond.laysFinal "java/lang/String" "java/lang/String" "value" "[B") ∈ lw_all := lw_g (lw_at lw_m3 40 rfl) rfl
theorem q580 : (Jvm.Cond.soleField "java/lang/String" "value") ∈ lw_all := lw_g (lw_at lw_m3 41 rfl) rfl
theorem q581 : (Jvm.Cond.laysFinal "java/lang/String" "java/lang/String" "coder" "B") ∈ lw_all := lw_g (lw_at lw_m3 42 rfl) rfl
theorem q582 : (Jvm.Cond.soleField "java/lang/String" "coder") ∈ lw_all := lw_g (lw_at lw_m3 43 rfl) rfl
theorem q583 : (Jvm.Cond.lays "java/lang/String" "java/lang/String" "hash" "I") ∈ lw_all := lw_g (lw_at lw_m3 44 rfl) rfl
theorem q584 : (Jvm.Cond.soleField "java/lang/String" "hash") ∈ lw_all := lw_g (lw_at lw_m3 45 rfl) rfl
theorem q585 : (Jvm.Cond.lays "java/lang/String" "java/lang/String" "hashIsZero" "Z") ∈ lw_all := lw_g (lw_at lw_m3 46 rfl) rfl
theorem q586 : (Jvm.Cond.soleField "java/lang/String" "hashIsZero") ∈ lw_all := lw_g (lw_at lw_m3 47 rfl) rfl
theorem q587 : (Jvm.Cond.superclass "java/lang/String" "java/lang/Object") ∈ lw_all := lw_g (lw_at lw_m3 48 rfl) rfl
theorem q598 : (Jvm.Cond.instanceMethod ({ cls := "java/lang/String", name := "<init>", desc := "([BB)V" } : Jvm.MethodName)) ∈ lw_all := lw_g (lw_at lw_m3 59 rfl) rfl
theorem q599 : (Jvm.Cond.code ({ cls := "java/lang/String", name := "<init>", desc := "([BB)V" } : Jvm.MethodName) prog_29_method_151_code (3 : Nat) (Option.none : Option Jvm.ClassFile.FieldType)) ∈ lw_all := lw_g (lw_at lw_m3 60 rfl) rfl
theorem q728 : (Jvm.Cond.instanceMethod ({ cls := "java/lang/String", name := "equals", desc := "(Ljava/lang/Object;)Z" } : Jvm.MethodName)) ∈ lw_all := lw_g (lw_at lw_m3 189 rfl) rfl
theorem q729 : (Jvm.Cond.selects "java/lang/String" ({ cls := "java/lang/String", name := "equals", desc := "(Ljava/lang/Object;)Z" } : Jvm.MethodName) ({ cls := "java/lang/String", name := "equals", desc := "(Ljava/lang/Object;)Z" } : Jvm.MethodName)) ∈ lw_all := lw_g (lw_at lw_m3 190 rfl) rfl
theorem q730 : (Jvm.Cond.code ({ cls := "java/lang/String", name := "equals", desc := "(Ljava/lang/Object;)Z" } : Jvm.MethodName) prog_29_method_66_code (3 : Nat) (Option.some Jvm.ClassFile.FieldType.boolean)) ∈ lw_all := lw_g (lw_at lw_m3 191 rfl) rfl
theorem q731 : (Jvm.Cond.classLink "java/lang/String" (10 : Nat) "java/lang/String") ∈ lw_all := lw_g (lw_at lw_m3 192 rfl) rfl
theorem q732 : (Jvm.Cond.methodLink "java/lang/String" (541 : Nat) ({ cls := "java/lang/StringLatin1", name := "equals", desc := "([B[B)Z" } : Jvm.MethodName)) ∈ lw_all := lw_g (lw_at lw_m3 193 rfl) rfl
theorem q746 : (Jvm.Cond.instanceMethod ({ cls := "java/lang/String", name := "indexOf", desc := "(I)I" } : Jvm.MethodName)) ∈ lw_all := lw_g (lw_at lw_m3 207 rfl) rfl
theorem q747 : (Jvm.Cond.selects "java/lang/String" ({ cls := "java/lang/String", name := "indexOf", desc := "(I)I" } : Jvm.MethodName) ({ cls := "java/lang/String", name := "indexOf", desc := "(I)I" } : Jvm.MethodName)) ∈ lw_all := lw_g (lw_at lw_m3 208 rfl) rfl
theorem q748 : (Jvm.Cond.code ({ cls := "java/lang/String", name := "indexOf", desc := "(I)I" } : Jvm.MethodName) prog_29_method_79_code (2 : Nat) (Option.some Jvm.ClassFile.FieldType.int)) ∈ lw_all := lw_g (lw_at lw_m3 209 rfl) rfl
theorem q749 : (Jvm.Cond.methodLink "java/lang/String" (633 : Nat) ({ cls := "java/lang/String", name := "indexOf", desc := "(II)I" } : Jvm.MethodName)) ∈ lw_all := lw_g (lw_at lw_m3 210 rfl) rfl
theorem q750 : (Jvm.Cond.instanceMethod ({ cls := "java/lang/String", name := "indexOf", desc := "(II)I" } : Jvm.MethodName)) ∈ lw_all := lw_g (lw_at lw_m3 211 rfl) rfl
theorem q751 : (Jvm.Cond.selects "java/lang/String" ({ cls := "java/lang/String", name := "indexOf", desc := "(II)I" } : Jvm.MethodName) ({ cls := "java/lang/String", name := "indexOf", desc := "(II)I" } : Jvm.MethodName)) ∈ lw_all := lw_g (lw_at lw_m3 212 rfl) rfl
theorem q752 : (Jvm.Cond.code ({ cls := "java/lang/String", name := "indexOf", desc := "(II)I" } : Jvm.MethodName) prog_29_method_80_code (3 : Nat) (Option.some Jvm.ClassFile.FieldType.int)) ∈ lw_all := lw_g (lw_at lw_m3 213 rfl) rfl
theorem q753 : (Jvm.Cond.methodLink "java/lang/String" (492 : Nat) ({ cls := "java/lang/String", name := "isLatin1", desc := "()Z" } : Jvm.MethodName)) ∈ lw_all := lw_g (lw_at lw_m3 214 rfl) rfl
theorem q754 : (Jvm.Cond.instanceMethod ({ cls := "java/lang/String", name := "isLatin1", desc := "()Z" } : Jvm.MethodName)) ∈ lw_all := lw_g (lw_at lw_m3 215 rfl) rfl
theorem q755 : (Jvm.Cond.selects "java/lang/String" ({ cls := "java/lang/String", name := "isLatin1", desc := "()Z" } : Jvm.MethodName) ({ cls := "java/lang/String", name := "isLatin1", desc := "()Z" } : Jvm.MethodName)) ∈ lw_all := lw_g (lw_at lw_m3 216 rfl) rfl
theorem q756 : (Jvm.Cond.code ({ cls := "java/lang/String", name := "isLatin1", desc := "()Z" } : Jvm.MethodName) prog_29_method_154_code (1 : Nat) (Option.some Jvm.ClassFile.FieldType.boolean)) ∈ lw_all := lw_g (lw_at lw_m3 217 rfl) rfl
theorem q757 : (Jvm.Cond.methodLink "java/lang/String" (505 : Nat) ({ cls := "java/lang/String", name := "length", desc := "()I" } : Jvm.MethodName)) ∈ lw_all := lw_g (lw_at lw_m3 218 rfl) rfl
theorem q758 : (Jvm.Cond.methodLink "java/lang/String" (637 : Nat) ({ cls := "java/lang/StringLatin1", name := "indexOf", desc := "([BIII)I" } : Jvm.MethodName)) ∈ lw_all := lw_g (lw_at lw_m3 219 rfl) rfl
theorem q769 : (Jvm.Cond.methodLink "java/lang/String" (640 : Nat) ({ cls := "java/lang/StringUTF16", name := "indexOf", desc := "([BIII)I" } : Jvm.MethodName)) ∈ lw_all := lw_g (lw_at lw_m3 230 rfl) rfl
theorem q872 : (Jvm.Cond.selects "java/lang/String" ({ cls := "java/lang/Object", name := "getClass", desc := "()Ljava/lang/Class;" } : Jvm.MethodName) ({ cls := "java/lang/Object", name := "getClass", desc := "()Ljava/lang/Class;" } : Jvm.MethodName)) ∈ lw_all := lw_g (lw_at lw_m4 93 rfl) rfl
theorem q1010 : (Jvm.Cond.castable "java/lang/String" "java/lang/Comparable") ∈ lw_tbl := lw_at lw_m4 231 rfl
theorem q1011 : (Jvm.Cond.selects "java/lang/String" ({ cls := "java/lang/Comparable", name := "compareTo", desc := "(Ljava/lang/Object;)I" } : Jvm.MethodName) ({ cls := "java/lang/String", name := "compareTo", desc := "(Ljava/lang/Object;)I" } : Jvm.MethodName)) ∈ lw_all := lw_g (lw_at lw_m4 232 rfl) rfl
theorem q1012 : (Jvm.Cond.unhidden "java/lang/String" "compareTo" "(Ljava/lang/Object;)I") ∈ lw_tbl := lw_at lw_m4 233 rfl
theorem q1013 : (Jvm.Cond.instanceMethod ({ cls := "java/lang/String", name := "compareTo", desc := "(Ljava/lang/Object;)I" } : Jvm.MethodName)) ∈ lw_all := lw_g (lw_at lw_m4 234 rfl) rfl
theorem q1014 : (Jvm.Cond.publicMethod ({ cls := "java/lang/String", name := "compareTo", desc := "(Ljava/lang/Object;)I" } : Jvm.MethodName)) ∈ lw_tbl := lw_at lw_m4 235 rfl
theorem q1015 : (Jvm.Cond.code ({ cls := "java/lang/String", name := "compareTo", desc := "(Ljava/lang/Object;)I" } : Jvm.MethodName) prog_29_method_162_code (2 : Nat) (Option.some Jvm.ClassFile.FieldType.int)) ∈ lw_all := lw_g (lw_at lw_m4 236 rfl) rfl
theorem q1016 : (Jvm.Cond.methodLink "java/lang/String" (1084 : Nat) ({ cls := "java/lang/String", name := "compareTo", desc := "(Ljava/lang/String;)I" } : Jvm.MethodName)) ∈ lw_all := lw_g (lw_at lw_m4 237 rfl) rfl
theorem q1017 : (Jvm.Cond.instanceMethod ({ cls := "java/lang/String", name := "compareTo", desc := "(Ljava/lang/String;)I" } : Jvm.MethodName)) ∈ lw_all := lw_g (lw_at lw_m4 238 rfl) rfl
theorem q1018 : (Jvm.Cond.selects "java/lang/String" ({ cls := "java/lang/String", name := "compareTo", desc := "(Ljava/lang/String;)I" } : Jvm.MethodName) ({ cls := "java/lang/String", name := "compareTo", desc := "(Ljava/lang/String;)I" } : Jvm.MethodName)) ∈ lw_all := lw_g (lw_at lw_m4 239 rfl) rfl
theorem q1019 : (Jvm.Cond.code ({ cls := "java/lang/String", name := "compareTo", desc := "(Ljava/lang/String;)I" } : Jvm.MethodName) prog_29_method_71_code (5 : Nat) (Option.some Jvm.ClassFile.FieldType.int)) ∈ lw_all := lw_g (lw_at lw_m5 0 rfl) rfl
theorem q1020 : (Jvm.Cond.methodLink "java/lang/String" (586 : Nat) ({ cls := "java/lang/StringLatin1", name := "compareTo", desc := "([B[B)I" } : Jvm.MethodName)) ∈ lw_all := lw_g (lw_at lw_m5 1 rfl) rfl
theorem q1133 : (Jvm.Cond.methodLink "java/lang/String" (590 : Nat) ({ cls := "java/lang/StringUTF16", name := "compareTo", desc := "([B[B)I" } : Jvm.MethodName)) ∈ lw_all := lw_g (lw_at lw_m5 114 rfl) rfl
theorem q1139 : (Jvm.Cond.methodLink "java/lang/String" (591 : Nat) ({ cls := "java/lang/StringLatin1", name := "compareToUTF16", desc := "([B[B)I" } : Jvm.MethodName)) ∈ lw_all := lw_g (lw_at lw_m5 120 rfl) rfl
theorem q1150 : (Jvm.Cond.methodLink "java/lang/String" (594 : Nat) ({ cls := "java/lang/StringUTF16", name := "compareToLatin1", desc := "([B[B)I" } : Jvm.MethodName)) ∈ lw_all := lw_g (lw_at lw_m5 131 rfl) rfl
theorem q1176 : (Jvm.Cond.static ({ cls := "java/lang/String", name := "checkOffset", desc := "(II)V" } : Jvm.MethodName)) ∈ lw_all := lw_g (lw_at lw_m5 157 rfl) rfl
theorem q1177 : (Jvm.Cond.code ({ cls := "java/lang/String", name := "checkOffset", desc := "(II)V" } : Jvm.MethodName) prog_29_method_156_code (2 : Nat) (Option.none : Option Jvm.ClassFile.FieldType)) ∈ lw_all := lw_g (lw_at lw_m5 158 rfl) rfl
theorem q1507 : (Jvm.Cond.instanceMethod ({ cls := "java/lang/String", name := "charAt", desc := "(I)C" } : Jvm.MethodName)) ∈ lw_all := lw_g (lw_at lw_m7 8 rfl) rfl
theorem q1508 : (Jvm.Cond.selects "java/lang/String" ({ cls := "java/lang/String", name := "charAt", desc := "(I)C" } : Jvm.MethodName) ({ cls := "java/lang/String", name := "charAt", desc := "(I)C" } : Jvm.MethodName)) ∈ lw_all := lw_g (lw_at lw_m7 9 rfl) rfl
theorem q1509 : (Jvm.Cond.code ({ cls := "java/lang/String", name := "charAt", desc := "(I)C" } : Jvm.MethodName) prog_29_method_56_code (2 : Nat) (Option.some Jvm.ClassFile.FieldType.char)) ∈ lw_all := lw_g (lw_at lw_m7 10 rfl) rfl
theorem q1510 : (Jvm.Cond.methodLink "java/lang/String" (495 : Nat) ({ cls := "java/lang/StringLatin1", name := "charAt", desc := "([BI)C" } : Jvm.MethodName)) ∈ lw_all := lw_g (lw_at lw_m7 11 rfl) rfl
theorem q1514 : (Jvm.Cond.methodLink "java/lang/String" (498 : Nat) ({ cls := "java/lang/StringUTF16", name := "charAt", desc := "([BI)C" } : Jvm.MethodName)) ∈ lw_all := lw_g (lw_at lw_m7 15 rfl) rfl
theorem q1565 : (Jvm.Cond.castable "java/lang/String" "java/lang/CharSequence") ∈ lw_tbl := lw_at lw_m7 66 rfl
theorem q1566 : (Jvm.Cond.selects "java/lang/String" ({ cls := "java/lang/CharSequence", name := "length", desc := "()I" } : Jvm.MethodName) ({ cls := "java/lang/String", name := "length", desc := "()I" } : Jvm.MethodName)) ∈ lw_all := lw_g (lw_at lw_m7 67 rfl) rfl
theorem q1567 : (Jvm.Cond.unhidden "java/lang/String" "length" "()I") ∈ lw_tbl := lw_at lw_m7 68 rfl
theorem q1568 : (Jvm.Cond.publicMethod ({ cls := "java/lang/String", name := "length", desc := "()I" } : Jvm.MethodName)) ∈ lw_tbl := lw_at lw_m7 69 rfl
theorem q1594 : (Jvm.Cond.instanceMethod ({ cls := "java/lang/String", name := "value", desc := "()[B" } : Jvm.MethodName)) ∈ lw_all := lw_g (lw_at lw_m7 95 rfl) rfl
theorem q1595 : (Jvm.Cond.selects "java/lang/String" ({ cls := "java/lang/String", name := "value", desc := "()[B" } : Jvm.MethodName) ({ cls := "java/lang/String", name := "value", desc := "()[B" } : Jvm.MethodName)) ∈ lw_all := lw_g (lw_at lw_m7 96 rfl) rfl
theorem q1596 : (Jvm.Cond.code ({ cls := "java/lang/String", name := "value", desc := "()[B" } : Jvm.MethodName) prog_29_method_153_code (1 : Nat) (Option.some (Jvm.ClassFile.FieldType.array Jvm.ClassFile.FieldType.byte))) ∈ lw_all := lw_g (lw_at lw_m7 97 rfl) rfl
theorem q1605 : (Jvm.Cond.selects "java/lang/String" ({ cls := "java/lang/CharSequence", name := "charAt", desc := "(I)C" } : Jvm.MethodName) ({ cls := "java/lang/String", name := "charAt", desc := "(I)C" } : Jvm.MethodName)) ∈ lw_all := lw_g (lw_at lw_m7 106 rfl) rfl
theorem q1606 : (Jvm.Cond.unhidden "java/lang/String" "charAt" "(I)C") ∈ lw_tbl := lw_at lw_m7 107 rfl
theorem q1607 : (Jvm.Cond.publicMethod ({ cls := "java/lang/String", name := "charAt", desc := "(I)C" } : Jvm.MethodName)) ∈ lw_tbl := lw_at lw_m7 108 rfl
theorem q2293 : (Jvm.Cond.castable "java/lang/String" "java/lang/Object") ∈ lw_tbl := lw_at lw_m10 74 rfl
theorem in_J2 : ∀ w ∈ wsJ20, w ∈ lw_all := lw_in wsJ20 [579, 581, 583, 585] (by decide +kernel) (by decide +kernel)
/-! java/lang/StringUTF16 -/
def RJ3 : String := "java/lang/StringUTF16"
abbrev cJ3_newBytesFor : ByteArray := prog_32_method_2_code
def yJ3_newBytesFor : MethodName := ⟨RJ3, "newBytesFor", "(I)[B"⟩
abbrev cJ3_newBytesLength : ByteArray := prog_32_method_3_code
def yJ3_newBytesLength : MethodName := ⟨RJ3, "newBytesLength", "(I)I"⟩
abbrev cJ3_getChar : ByteArray := prog_32_method_5_code
def yJ3_getChar : MethodName := ⟨RJ3, "getChar", "([BI)C"⟩
abbrev cJ3_length : ByteArray := prog_32_method_6_code
def yJ3_length : MethodName := ⟨RJ3, "length", "([B)I"⟩
abbrev cJ3_getChars : ByteArray := prog_32_method_77_code
def yJ3_getChars : MethodName := ⟨RJ3, "getChars", "(III[B)I"⟩
abbrev cJ3_checkBoundsBeginEnd : ByteArray := prog_32_method_93_code
def yJ3_checkBoundsBeginEnd : MethodName := ⟨RJ3, "checkBoundsBeginEnd", "(II[B)V"⟩
abbrev cJ3_getChars_2 : ByteArray := prog_32_method_89_code
def yJ3_getChars_2 : MethodName := ⟨RJ3, "getChars", "(II[B)I"⟩
abbrev cJ3_putChar : ByteArray := prog_32_method_4_code
def yJ3_putChar : MethodName := ⟨RJ3, "putChar", "([BII)V"⟩
abbrev cJ3_putCharsAt : ByteArray := prog_32_method_81_code
def yJ3_putCharsAt : MethodName := ⟨RJ3, "putCharsAt", "([BICCCC)I"⟩
abbrev cJ3_inflate : ByteArray := prog_32_method_86_code
def yJ3_inflate : MethodName := ⟨RJ3, "inflate", "([BI[BII)V"⟩
abbrev cJ3_checkBoundsOffCount : ByteArray := prog_32_method_94_code
def yJ3_checkBoundsOffCount : MethodName := ⟨RJ3, "checkBoundsOffCount", "(II[B)V"⟩
abbrev cJ3_compress : ByteArray := prog_32_method_17_code
def yJ3_compress : MethodName := ⟨RJ3, "compress", "([BII)[B"⟩
abbrev cJ3_compress_2 : ByteArray := prog_32_method_22_code
def yJ3_compress_2 : MethodName := ⟨RJ3, "compress", "([BI[BII)I"⟩
abbrev cJ3_coderFromArrayLen : ByteArray := prog_32_method_15_code
def yJ3_coderFromArrayLen : MethodName := ⟨RJ3, "coderFromArrayLen", "([BI)B"⟩
abbrev cJ3_newString : ByteArray := prog_32_method_69_code
def yJ3_newString : MethodName := ⟨RJ3, "newString", "([BII)Ljava/lang/String;"⟩
abbrev cJ3_indexOf : ByteArray := prog_32_method_40_code
def yJ3_indexOf : MethodName := ⟨RJ3, "indexOf", "([BIII)I"⟩
abbrev cJ3_indexOfChar : ByteArray := prog_32_method_47_code
def yJ3_indexOfChar : MethodName := ⟨RJ3, "indexOfChar", "([BIII)I"⟩
abbrev cJ3_indexOfCharUnsafe : ByteArray := prog_32_method_48_code
def yJ3_indexOfCharUnsafe : MethodName := ⟨RJ3, "indexOfCharUnsafe", "([BIII)I"⟩
abbrev cJ3_indexOfSupplementary : ByteArray := prog_32_method_49_code
def yJ3_indexOfSupplementary : MethodName := ⟨RJ3, "indexOfSupplementary", "([BIII)I"⟩
abbrev cJ3_fillNull : ByteArray := prog_32_method_70_code
def yJ3_fillNull : MethodName := ⟨RJ3, "fillNull", "([BII)V"⟩
abbrev cJ3_compareTo : ByteArray := prog_32_method_29_code
def yJ3_compareTo : MethodName := ⟨RJ3, "compareTo", "([B[B)I"⟩
abbrev cJ3_compareValues : ByteArray := prog_32_method_31_code
def yJ3_compareValues : MethodName := ⟨RJ3, "compareValues", "([B[BII)I"⟩
abbrev cJ3_compareToLatin1 : ByteArray := prog_32_method_32_code
def yJ3_compareToLatin1 : MethodName := ⟨RJ3, "compareToLatin1", "([B[B)I"⟩
abbrev cJ3_compareTo_2 : ByteArray := prog_32_method_30_code
def yJ3_compareTo_2 : MethodName := ⟨RJ3, "compareTo", "([B[BII)I"⟩
abbrev cJ3_checkOffset : ByteArray := prog_32_method_92_code
def yJ3_checkOffset : MethodName := ⟨RJ3, "checkOffset", "(I[B)V"⟩
abbrev cJ3_compareToLatin1_2 : ByteArray := prog_32_method_33_code
def yJ3_compareToLatin1_2 : MethodName := ⟨RJ3, "compareToLatin1", "([B[BII)I"⟩
abbrev cJ3_putCharSB : ByteArray := prog_32_method_71_code
def yJ3_putCharSB : MethodName := ⟨RJ3, "putCharSB", "([BII)V"⟩
abbrev cJ3_checkIndex : ByteArray := prog_32_method_91_code
def yJ3_checkIndex : MethodName := ⟨RJ3, "checkIndex", "(I[B)V"⟩
abbrev cJ3_charAt : ByteArray := prog_32_method_83_code
def yJ3_charAt : MethodName := ⟨RJ3, "charAt", "([BI)C"⟩
abbrev cJ3_putCharsSB : ByteArray := prog_32_method_73_code
def yJ3_putCharsSB : MethodName := ⟨RJ3, "putCharsSB", "([BILjava/lang/CharSequence;II)V"⟩
theorem q64 : (Jvm.Cond.initialized "java/lang/StringUTF16") ∈ lw_all := lw_g (lw_at lw_m1 5 rfl) rfl
theorem q125 : (Jvm.Cond.static ({ cls := "java/lang/StringUTF16", name := "newBytesFor", desc := "(I)[B" } : Jvm.MethodName)) ∈ lw_all := lw_g (lw_at lw_m1 66 rfl) rfl
theorem q126 : (Jvm.Cond.code ({ cls := "java/lang/StringUTF16", name := "newBytesFor", desc := "(I)[B" } : Jvm.MethodName) prog_32_method_2_code (1 : Nat) (Option.some (Jvm.ClassFile.FieldType.array Jvm.ClassFile.FieldType.byte))) ∈ lw_all := lw_g (lw_at lw_m1 67 rfl) rfl
theorem q127 : (Jvm.Cond.methodLink "java/lang/StringUTF16" (11 : Nat) ({ cls := "java/lang/StringUTF16", name := "newBytesLength", desc := "(I)I" } : Jvm.MethodName)) ∈ lw_all := lw_g (lw_at lw_m1 68 rfl) rfl
theorem q128 : (Jvm.Cond.static ({ cls := "java/lang/StringUTF16", name := "newBytesLength", desc := "(I)I" } : Jvm.MethodName)) ∈ lw_all := lw_g (lw_at lw_m1 69 rfl) rfl
theorem q129 : (Jvm.Cond.code ({ cls := "java/lang/StringUTF16", name := "newBytesLength", desc := "(I)I" } : Jvm.MethodName) prog_32_method_3_code (1 : Nat) (Option.some Jvm.ClassFile.FieldType.int)) ∈ lw_all := lw_g (lw_at lw_m1 70 rfl) rfl
theorem q130 : (Jvm.Cond.constant "java/lang/StringUTF16" (20 : Nat) (1073741823 : Int32)) ∈ lw_all := lw_g (lw_at lw_m1 71 rfl) rfl
theorem q278 : (Jvm.Cond.static ({ cls := "java/lang/StringUTF16", name := "getChar", desc := "([BI)C" } : Jvm.MethodName)) ∈ lw_all := lw_g (lw_at lw_m1 219 rfl) rfl
theorem q279 : (Jvm.Cond.code ({ cls := "java/lang/StringUTF16", name := "getChar", desc := "([BI)C" } : Jvm.MethodName) prog_32_method_5_code (2 : Nat) (Option.some Jvm.ClassFile.FieldType.char)) ∈ lw_all := lw_g (lw_at lw_m1 220 rfl) rfl
theorem q280 : (Jvm.Cond.fieldLink "java/lang/StringUTF16" (44 : Nat) "java/lang/StringUTF16" "$assertionsDisabled" "Z") ∈ lw_all := lw_g (lw_at lw_m1 221 rfl) rfl
theorem q281 : (Jvm.Cond.laysStatic "java/lang/StringUTF16" "$assertionsDisabled" "Z") ∈ lw_tbl := lw_at lw_m1 222 rfl
theorem q282 : (Jvm.Cond.methodLink "java/lang/StringUTF16" (48 : Nat) ({ cls := "java/lang/StringUTF16", name := "length", desc := "([B)I" } : Jvm.MethodName)) ∈ lw_all := lw_g (lw_at lw_m1 223 rfl) rfl
theorem q283 : (Jvm.Cond.static ({ cls := "java/lang/StringUTF16", name := "length", desc := "([B)I" } : Jvm.MethodName)) ∈ lw_all := lw_g (lw_at lw_m1 224 rfl) rfl
theorem q284 : (Jvm.Cond.code ({ cls := "java/lang/StringUTF16", name := "length", desc := "([B)I" } : Jvm.MethodName) prog_32_method_6_code (1 : Nat) (Option.some Jvm.ClassFile.FieldType.int)) ∈ lw_all := lw_g (lw_at lw_m1 225 rfl) rfl
theorem q285 : (Jvm.Cond.fieldLink "java/lang/StringUTF16" (59 : Nat) "java/lang/StringUTF16" "HI_BYTE_SHIFT" "I") ∈ lw_all := lw_g (lw_at lw_m1 226 rfl) rfl
theorem q286 : (Jvm.Cond.laysStatic "java/lang/StringUTF16" "HI_BYTE_SHIFT" "I") ∈ lw_tbl := lw_at lw_m1 227 rfl
theorem q287 : (Jvm.Cond.fieldLink "java/lang/StringUTF16" (63 : Nat) "java/lang/StringUTF16" "LO_BYTE_SHIFT" "I") ∈ lw_all := lw_g (lw_at lw_m1 228 rfl) rfl
theorem q288 : (Jvm.Cond.laysStatic "java/lang/StringUTF16" "LO_BYTE_SHIFT" "I") ∈ lw_tbl := lw_at lw_m1 229 rfl
theorem q471 : (Jvm.Cond.static ({ cls := "java/lang/StringUTF16", name := "getChars", desc := "(III[B)I" } : Jvm.MethodName)) ∈ lw_all := lw_g (lw_at lw_m2 172 rfl) rfl
theorem q472 : (Jvm.Cond.code ({ cls := "java/lang/StringUTF16", name := "getChars", desc := "(III[B)I" } : Jvm.MethodName) prog_32_method_77_code (5 : Nat) (Option.some Jvm.ClassFile.FieldType.int)) ∈ lw_all := lw_g (lw_at lw_m2 173 rfl) rfl
theorem q473 : (Jvm.Cond.methodLink "java/lang/StringUTF16" (96 : Nat) ({ cls := "java/lang/StringUTF16", name := "checkBoundsBeginEnd", desc := "(II[B)V" } : Jvm.MethodName)) ∈ lw_all := lw_g (lw_at lw_m2 174 rfl) rfl
theorem q474 : (Jvm.Cond.static ({ cls := "java/lang/StringUTF16", name := "checkBoundsBeginEnd", desc := "(II[B)V" } : Jvm.MethodName)) ∈ lw_all := lw_g (lw_at lw_m2 175 rfl) rfl
theorem q475 : (Jvm.Cond.code ({ cls := "java/lang/StringUTF16", name := "checkBoundsBeginEnd", desc := "(II[B)V" } : Jvm.MethodName) prog_32_method_93_code (3 : Nat) (Option.none : Option Jvm.ClassFile.FieldType)) ∈ lw_all := lw_g (lw_at lw_m2 176 rfl) rfl
theorem q476 : (Jvm.Cond.methodLink "java/lang/StringUTF16" (241 : Nat) ({ cls := "java/lang/String", name := "checkBoundsBeginEnd", desc := "(III)V" } : Jvm.MethodName)) ∈ lw_all := lw_g (lw_at lw_m2 177 rfl) rfl
theorem q480 : (Jvm.Cond.methodLink "java/lang/StringUTF16" (393 : Nat) ({ cls := "java/lang/StringUTF16", name := "getChars", desc := "(II[B)I" } : Jvm.MethodName)) ∈ lw_all := lw_g (lw_at lw_m2 181 rfl) rfl
theorem q481 : (Jvm.Cond.static ({ cls := "java/lang/StringUTF16", name := "getChars", desc := "(II[B)I" } : Jvm.MethodName)) ∈ lw_all := lw_g (lw_at lw_m2 182 rfl) rfl
theorem q482 : (Jvm.Cond.code ({ cls := "java/lang/StringUTF16", name := "getChars", desc := "(II[B)I" } : Jvm.MethodName) prog_32_method_89_code (7 : Nat) (Option.some Jvm.ClassFile.FieldType.int)) ∈ lw_all := lw_g (lw_at lw_m2 183 rfl) rfl
theorem q483 : (Jvm.Cond.fieldLink "java/lang/StringUTF16" (403 : Nat) "java/lang/Integer" "DigitOnes" "[B") ∈ lw_all := lw_g (lw_at lw_m2 184 rfl) rfl
theorem q484 : (Jvm.Cond.methodLink "java/lang/StringUTF16" (111 : Nat) ({ cls := "java/lang/StringUTF16", name := "putChar", desc := "([BII)V" } : Jvm.MethodName)) ∈ lw_all := lw_g (lw_at lw_m2 185 rfl) rfl
theorem q485 : (Jvm.Cond.static ({ cls := "java/lang/StringUTF16", name := "putChar", desc := "([BII)V" } : Jvm.MethodName)) ∈ lw_all := lw_g (lw_at lw_m2 186 rfl) rfl
theorem q486 : (Jvm.Cond.code ({ cls := "java/lang/StringUTF16", name := "putChar", desc := "([BII)V" } : Jvm.MethodName) prog_32_method_4_code (3 : Nat) (Option.none : Option Jvm.ClassFile.FieldType)) ∈ lw_all := lw_g (lw_at lw_m2 187 rfl) rfl
theorem q487 : (Jvm.Cond.fieldLink "java/lang/StringUTF16" (407 : Nat) "java/lang/Integer" "DigitTens" "[B") ∈ lw_all := lw_g (lw_at lw_m2 188 rfl) rfl
theorem q501 : (Jvm.Cond.static ({ cls := "java/lang/StringUTF16", name := "putCharsAt", desc := "([BICCCC)I" } : Jvm.MethodName)) ∈ lw_all := lw_g (lw_at lw_m2 202 rfl) rfl
theorem q502 : (Jvm.Cond.code ({ cls := "java/lang/StringUTF16", name := "putCharsAt", desc := "([BICCCC)I" } : Jvm.MethodName) prog_32_method_81_code (7 : Nat) (Option.some Jvm.ClassFile.FieldType.int)) ∈ lw_all := lw_g (lw_at lw_m2 203 rfl) rfl
theorem q529 : (Jvm.Cond.static ({ cls := "java/lang/StringUTF16", name := "inflate", desc := "([BI[BII)V" } : Jvm.MethodName)) ∈ lw_all := lw_g (lw_at lw_m2 230 rfl) rfl
theorem q530 : (Jvm.Cond.code ({ cls := "java/lang/StringUTF16", name := "inflate", desc := "([BI[BII)V" } : Jvm.MethodName) prog_32_method_86_code (6 : Nat) (Option.none : Option Jvm.ClassFile.FieldType)) ∈ lw_all := lw_g (lw_at lw_m2 231 rfl) rfl
theorem q531 : (Jvm.Cond.methodLink "java/lang/StringUTF16" (173 : Nat) ({ cls := "java/lang/StringUTF16", name := "checkBoundsOffCount", desc := "(II[B)V" } : Jvm.MethodName)) ∈ lw_all := lw_g (lw_at lw_m2 232 rfl) rfl
theorem q532 : (Jvm.Cond.static ({ cls := "java/lang/StringUTF16", name := "checkBoundsOffCount", desc := "(II[B)V" } : Jvm.MethodName)) ∈ lw_all := lw_g (lw_at lw_m2 233 rfl) rfl
theorem q533 : (Jvm.Cond.code ({ cls := "java/lang/StringUTF16", name := "checkBoundsOffCount", desc := "(II[B)V" } : Jvm.MethodName) prog_32_method_94_code (3 : Nat) (Option.none : Option Jvm.ClassFile.FieldType)) ∈ lw_all := lw_g (lw_at lw_m2 234 rfl) rfl
theorem q534 : (Jvm.Cond.methodLink "java/lang/StringUTF16" (419 : Nat) ({ cls := "java/lang/String", name := "checkBoundsOffCount", desc := "(III)I" } : Jvm.MethodName)) ∈ lw_all := lw_g (lw_at lw_m2 235 rfl) rfl
theorem q567 : (Jvm.Cond.static ({ cls := "java/lang/StringUTF16", name := "compress", desc := "([BII)[B" } : Jvm.MethodName)) ∈ lw_all := lw_g (lw_at lw_m3 28 rfl) rfl
theorem q568 : (Jvm.Cond.code ({ cls := "java/lang/StringUTF16", name := "compress", desc := "([BII)[B" } : Jvm.MethodName) prog_32_method_17_code (6 : Nat) (Option.some (Jvm.ClassFile.FieldType.array Jvm.ClassFile.FieldType.byte))) ∈ lw_all := lw_g (lw_at lw_m3 29 rfl) rfl
theorem q569 : (Jvm.Cond.methodLink "java/lang/StringUTF16" (123 : Nat) ({ cls := "java/lang/StringUTF16", name := "compress", desc := "([BI[BII)I" } : Jvm.MethodName)) ∈ lw_all := lw_g (lw_at lw_m3 30 rfl) rfl
theorem q570 : (Jvm.Cond.static ({ cls := "java/lang/StringUTF16", name := "compress", desc := "([BI[BII)I" } : Jvm.MethodName)) ∈ lw_all := lw_g (lw_at lw_m3 31 rfl) rfl
theorem q571 : (Jvm.Cond.code ({ cls := "java/lang/StringUTF16", name := "compress", desc := "([BI[BII)I" } : Jvm.MethodName) prog_32_method_22_code (7 : Nat) (Option.some Jvm.ClassFile.FieldType.int)) ∈ lw_all := lw_g (lw_at lw_m3 32 rfl) rfl
theorem q572 : (Jvm.Cond.methodLink "java/lang/StringUTF16" (71 : Nat) ({ cls := "java/lang/StringUTF16", name := "getChar", desc := "([BI)C" } : Jvm.MethodName)) ∈ lw_all := lw_g (lw_at lw_m3 33 rfl) rfl
theorem q573 : (Jvm.Cond.methodLink "java/lang/StringUTF16" (126 : Nat) ({ cls := "java/util/Arrays", name := "copyOfRange", desc := "([BII)[B" } : Jvm.MethodName)) ∈ lw_all := lw_g (lw_at lw_m3 34 rfl) rfl
theorem q575 : (Jvm.Cond.static ({ cls := "java/lang/StringUTF16", name := "coderFromArrayLen", desc := "([BI)B" } : Jvm.MethodName)) ∈ lw_all := lw_g (lw_at lw_m3 36 rfl) rfl
theorem q576 : (Jvm.Cond.code ({ cls := "java/lang/StringUTF16", name := "coderFromArrayLen", desc := "([BI)B" } : Jvm.MethodName) prog_32_method_15_code (2 : Nat) (Option.some Jvm.ClassFile.FieldType.byte)) ∈ lw_all := lw_g (lw_at lw_m3 37 rfl) rfl
theorem q601 : (Jvm.Cond.static ({ cls := "java/lang/StringUTF16", name := "newString", desc := "([BII)Ljava/lang/String;" } : Jvm.MethodName)) ∈ lw_all := lw_g (lw_at lw_m3 62 rfl) rfl
theorem q602 : (Jvm.Cond.code ({ cls := "java/lang/StringUTF16", name := "newString", desc := "([BII)Ljava/lang/String;" } : Jvm.MethodName) prog_32_method_69_code (5 : Nat) (Option.some (Jvm.ClassFile.FieldType.object "java/lang/String"))) ∈ lw_all := lw_g (lw_at lw_m3 63 rfl) rfl
theorem q603 : (Jvm.Cond.stringRef "java/lang/StringUTF16" (295 : Nat) "") ∈ lw_tbl := lw_at lw_m3 64 rfl
theorem q604 : (Jvm.Cond.fieldLink "java/lang/StringUTF16" (251 : Nat) "java/lang/String" "COMPACT_STRINGS" "Z") ∈ lw_all := lw_g (lw_at lw_m3 65 rfl) rfl
theorem q605 : (Jvm.Cond.methodLink "java/lang/StringUTF16" (257 : Nat) ({ cls := "java/lang/StringUTF16", name := "compress", desc := "([BII)[B" } : Jvm.MethodName)) ∈ lw_all := lw_g (lw_at lw_m3 66 rfl) rfl
theorem q606 : (Jvm.Cond.methodLink "java/lang/StringUTF16" (259 : Nat) ({ cls := "java/lang/StringUTF16", name := "coderFromArrayLen", desc := "([BI)B" } : Jvm.MethodName)) ∈ lw_all := lw_g (lw_at lw_m3 67 rfl) rfl
theorem q607 : (Jvm.Cond.classLink "java/lang/StringUTF16" (3 : Nat) "java/lang/String") ∈ lw_all := lw_g (lw_at lw_m3 68 rfl) rfl
theorem q608 : (Jvm.Cond.methodLink "java/lang/StringUTF16" (263 : Nat) ({ cls := "java/lang/String", name := "<init>", desc := "([BB)V" } : Jvm.MethodName)) ∈ lw_all := lw_g (lw_at lw_m3 69 rfl) rfl
theorem q770 : (Jvm.Cond.static ({ cls := "java/lang/StringUTF16", name := "indexOf", desc := "([BIII)I" } : Jvm.MethodName)) ∈ lw_all := lw_g (lw_at lw_m3 231 rfl) rfl
theorem q771 : (Jvm.Cond.code ({ cls := "java/lang/StringUTF16", name := "indexOf", desc := "([BIII)I" } : Jvm.MethodName) prog_32_method_40_code (4 : Nat) (Option.some Jvm.ClassFile.FieldType.int)) ∈ lw_all := lw_g (lw_at lw_m3 232 rfl) rfl
theorem q772 : (Jvm.Cond.methodLink "java/lang/StringUTF16" (224 : Nat) ({ cls := "java/lang/Math", name := "max", desc := "(II)I" } : Jvm.MethodName)) ∈ lw_all := lw_g (lw_at lw_m3 233 rfl) rfl
theorem q773 : (Jvm.Cond.methodLink "java/lang/StringUTF16" (183 : Nat) ({ cls := "java/lang/Math", name := "min", desc := "(II)I" } : Jvm.MethodName)) ∈ lw_all := lw_g (lw_at lw_m3 234 rfl) rfl
theorem q774 : (Jvm.Cond.constant "java/lang/StringUTF16" (227 : Nat) (65536 : Int32)) ∈ lw_all := lw_g (lw_at lw_m3 235 rfl) rfl
theorem q775 : (Jvm.Cond.methodLink "java/lang/StringUTF16" (228 : Nat) ({ cls := "java/lang/StringUTF16", name := "indexOfChar", desc := "([BIII)I" } : Jvm.MethodName)) ∈ lw_all := lw_g (lw_at lw_m3 236 rfl) rfl
theorem q776 : (Jvm.Cond.static ({ cls := "java/lang/StringUTF16", name := "indexOfChar", desc := "([BIII)I" } : Jvm.MethodName)) ∈ lw_all := lw_g (lw_at lw_m3 237 rfl) rfl
theorem q777 : (Jvm.Cond.code ({ cls := "java/lang/StringUTF16", name := "indexOfChar", desc := "([BIII)I" } : Jvm.MethodName) prog_32_method_47_code (4 : Nat) (Option.some Jvm.ClassFile.FieldType.int)) ∈ lw_all := lw_g (lw_at lw_m3 238 rfl) rfl
theorem q778 : (Jvm.Cond.methodLink "java/lang/StringUTF16" (244 : Nat) ({ cls := "java/lang/StringUTF16", name := "indexOfCharUnsafe", desc := "([BIII)I" } : Jvm.MethodName)) ∈ lw_all := lw_g (lw_at lw_m3 239 rfl) rfl
theorem q779 : (Jvm.Cond.static ({ cls := "java/lang/StringUTF16", name := "indexOfCharUnsafe", desc := "([BIII)I" } : Jvm.MethodName)) ∈ lw_all := lw_g (lw_at lw_m4 0 rfl) rfl
theorem q780 : (Jvm.Cond.code ({ cls := "java/lang/StringUTF16", name := "indexOfCharUnsafe", desc := "([BIII)I" } : Jvm.MethodName) prog_32_method_48_code (5 : Nat) (Option.some Jvm.ClassFile.FieldType.int)) ∈ lw_all := lw_g (lw_at lw_m4 1 rfl) rfl
theorem q781 : (Jvm.Cond.methodLink "java/lang/StringUTF16" (232 : Nat) ({ cls := "java/lang/StringUTF16", name := "indexOfSupplementary", desc := "([BIII)I" } : Jvm.MethodName)) ∈ lw_all := lw_g (lw_at lw_m4 2 rfl) rfl
theorem q782 : (Jvm.Cond.static ({ cls := "java/lang/StringUTF16", name := "indexOfSupplementary", desc := "([BIII)I" } : Jvm.MethodName)) ∈ lw_all := lw_g (lw_at lw_m4 3 rfl) rfl
theorem q783 : (Jvm.Cond.code ({ cls := "java/lang/StringUTF16", name := "indexOfSupplementary", desc := "([BIII)I" } : Jvm.MethodName) prog_32_method_49_code (7 : Nat) (Option.some Jvm.ClassFile.FieldType.int)) ∈ lw_all := lw_g (lw_at lw_m4 4 rfl) rfl
theorem q784 : (Jvm.Cond.methodLink "java/lang/StringUTF16" (164 : Nat) ({ cls := "java/lang/Character", name := "isValidCodePoint", desc := "(I)Z" } : Jvm.MethodName)) ∈ lw_all := lw_g (lw_at lw_m4 5 rfl) rfl
theorem q787 : (Jvm.Cond.methodLink "java/lang/StringUTF16" (157 : Nat) ({ cls := "java/lang/Character", name := "highSurrogate", desc := "(I)C" } : Jvm.MethodName)) ∈ lw_all := lw_g (lw_at lw_m4 8 rfl) rfl
theorem q791 : (Jvm.Cond.methodLink "java/lang/StringUTF16" (161 : Nat) ({ cls := "java/lang/Character", name := "lowSurrogate", desc := "(I)C" } : Jvm.MethodName)) ∈ lw_all := lw_g (lw_at lw_m4 12 rfl) rfl
theorem q912 : (Jvm.Cond.static ({ cls := "java/lang/StringUTF16", name := "fillNull", desc := "([BII)V" } : Jvm.MethodName)) ∈ lw_all := lw_g (lw_at lw_m4 133 rfl) rfl
theorem q913 : (Jvm.Cond.code ({ cls := "java/lang/StringUTF16", name := "fillNull", desc := "([BII)V" } : Jvm.MethodName) prog_32_method_70_code (3 : Nat) (Option.none : Option Jvm.ClassFile.FieldType)) ∈ lw_all := lw_g (lw_at lw_m4 134 rfl) rfl
theorem q914 : (Jvm.Cond.methodLink "java/lang/StringUTF16" (380 : Nat) ({ cls := "java/util/Arrays", name := "fill", desc := "([BIIB)V" } : Jvm.MethodName)) ∈ lw_all := lw_g (lw_at lw_m4 135 rfl) rfl
theorem q1134 : (Jvm.Cond.static ({ cls := "java/lang/StringUTF16", name := "compareTo", desc := "([B[B)I" } : Jvm.MethodName)) ∈ lw_all := lw_g (lw_at lw_m5 115 rfl) rfl
theorem q1135 : (Jvm.Cond.code ({ cls := "java/lang/StringUTF16", name := "compareTo", desc := "([B[B)I" } : Jvm.MethodName) prog_32_method_29_code (4 : Nat) (Option.some Jvm.ClassFile.FieldType.int)) ∈ lw_all := lw_g (lw_at lw_m5 116 rfl) rfl
theorem q1136 : (Jvm.Cond.methodLink "java/lang/StringUTF16" (176 : Nat) ({ cls := "java/lang/StringUTF16", name := "compareValues", desc := "([B[BII)I" } : Jvm.MethodName)) ∈ lw_all := lw_g (lw_at lw_m5 117 rfl) rfl
theorem q1137 : (Jvm.Cond.static ({ cls := "java/lang/StringUTF16", name := "compareValues", desc := "([B[BII)I" } : Jvm.MethodName)) ∈ lw_all := lw_g (lw_at lw_m5 118 rfl) rfl
theorem q1138 : (Jvm.Cond.code ({ cls := "java/lang/StringUTF16", name := "compareValues", desc := "([B[BII)I" } : Jvm.MethodName) prog_32_method_31_code (8 : Nat) (Option.some Jvm.ClassFile.FieldType.int)) ∈ lw_all := lw_g (lw_at lw_m5 119 rfl) rfl
theorem q1151 : (Jvm.Cond.static ({ cls := "java/lang/StringUTF16", name := "compareToLatin1", desc := "([B[B)I" } : Jvm.MethodName)) ∈ lw_all := lw_g (lw_at lw_m5 132 rfl) rfl
theorem q1152 : (Jvm.Cond.code ({ cls := "java/lang/StringUTF16", name := "compareToLatin1", desc := "([B[B)I" } : Jvm.MethodName) prog_32_method_32_code (2 : Nat) (Option.some Jvm.ClassFile.FieldType.int)) ∈ lw_all := lw_g (lw_at lw_m5 133 rfl) rfl
theorem q1153 : (Jvm.Cond.methodLink "java/lang/StringUTF16" (189 : Nat) ({ cls := "java/lang/StringLatin1", name := "compareToUTF16", desc := "([B[B)I" } : Jvm.MethodName)) ∈ lw_all := lw_g (lw_at lw_m5 134 rfl) rfl
theorem q1170 : (Jvm.Cond.static ({ cls := "java/lang/StringUTF16", name := "compareTo", desc := "([B[BII)I" } : Jvm.MethodName)) ∈ lw_all := lw_g (lw_at lw_m5 151 rfl) rfl
theorem q1171 : (Jvm.Cond.code ({ cls := "java/lang/StringUTF16", name := "compareTo", desc := "([B[BII)I" } : Jvm.MethodName) prog_32_method_30_code (4 : Nat) (Option.some Jvm.ClassFile.FieldType.int)) ∈ lw_all := lw_g (lw_at lw_m5 152 rfl) rfl
theorem q1172 : (Jvm.Cond.methodLink "java/lang/StringUTF16" (180 : Nat) ({ cls := "java/lang/StringUTF16", name := "checkOffset", desc := "(I[B)V" } : Jvm.MethodName)) ∈ lw_all := lw_g (lw_at lw_m5 153 rfl) rfl
theorem q1173 : (Jvm.Cond.static ({ cls := "java/lang/StringUTF16", name := "checkOffset", desc := "(I[B)V" } : Jvm.MethodName)) ∈ lw_all := lw_g (lw_at lw_m5 154 rfl) rfl
theorem q1174 : (Jvm.Cond.code ({ cls := "java/lang/StringUTF16", name := "checkOffset", desc := "(I[B)V" } : Jvm.MethodName) prog_32_method_92_code (2 : Nat) (Option.none : Option Jvm.ClassFile.FieldType)) ∈ lw_all := lw_g (lw_at lw_m5 155 rfl) rfl
theorem q1175 : (Jvm.Cond.methodLink "java/lang/StringUTF16" (417 : Nat) ({ cls := "java/lang/String", name := "checkOffset", desc := "(II)V" } : Jvm.MethodName)) ∈ lw_all := lw_g (lw_at lw_m5 156 rfl) rfl
theorem q1183 : (Jvm.Cond.static ({ cls := "java/lang/StringUTF16", name := "compareToLatin1", desc := "([B[BII)I" } : Jvm.MethodName)) ∈ lw_all := lw_g (lw_at lw_m5 164 rfl) rfl
theorem q1184 : (Jvm.Cond.code ({ cls := "java/lang/StringUTF16", name := "compareToLatin1", desc := "([B[BII)I" } : Jvm.MethodName) prog_32_method_33_code (4 : Nat) (Option.some Jvm.ClassFile.FieldType.int)) ∈ lw_all := lw_g (lw_at lw_m5 165 rfl) rfl
theorem q1185 : (Jvm.Cond.methodLink "java/lang/StringUTF16" (193 : Nat) ({ cls := "java/lang/StringLatin1", name := "compareToUTF16", desc := "([B[BII)I" } : Jvm.MethodName)) ∈ lw_all := lw_g (lw_at lw_m5 166 rfl) rfl
theorem q1229 : (Jvm.Cond.static ({ cls := "java/lang/StringUTF16", name := "putCharSB", desc := "([BII)V" } : Jvm.MethodName)) ∈ lw_all := lw_g (lw_at lw_m5 210 rfl) rfl
theorem q1230 : (Jvm.Cond.code ({ cls := "java/lang/StringUTF16", name := "putCharSB", desc := "([BII)V" } : Jvm.MethodName) prog_32_method_71_code (3 : Nat) (Option.none : Option Jvm.ClassFile.FieldType)) ∈ lw_all := lw_g (lw_at lw_m5 211 rfl) rfl
theorem q1231 : (Jvm.Cond.methodLink "java/lang/StringUTF16" (67 : Nat) ({ cls := "java/lang/StringUTF16", name := "checkIndex", desc := "(I[B)V" } : Jvm.MethodName)) ∈ lw_all := lw_g (lw_at lw_m5 212 rfl) rfl
theorem q1232 : (Jvm.Cond.static ({ cls := "java/lang/StringUTF16", name := "checkIndex", desc := "(I[B)V" } : Jvm.MethodName)) ∈ lw_all := lw_g (lw_at lw_m5 213 rfl) rfl
theorem q1233 : (Jvm.Cond.code ({ cls := "java/lang/StringUTF16", name := "checkIndex", desc := "(I[B)V" } : Jvm.MethodName) prog_32_method_91_code (2 : Nat) (Option.none : Option Jvm.ClassFile.FieldType)) ∈ lw_all := lw_g (lw_at lw_m5 214 rfl) rfl
theorem q1234 : (Jvm.Cond.methodLink "java/lang/StringUTF16" (414 : Nat) ({ cls := "java/lang/String", name := "checkIndex", desc := "(II)V" } : Jvm.MethodName)) ∈ lw_all := lw_g (lw_at lw_m5 215 rfl) rfl
theorem q1515 : (Jvm.Cond.static ({ cls := "java/lang/StringUTF16", name := "charAt", desc := "([BI)C" } : Jvm.MethodName)) ∈ lw_all := lw_g (lw_at lw_m7 16 rfl) rfl
theorem q1516 : (Jvm.Cond.code ({ cls := "java/lang/StringUTF16", name := "charAt", desc := "([BI)C" } : Jvm.MethodName) prog_32_method_83_code (2 : Nat) (Option.some Jvm.ClassFile.FieldType.char)) ∈ lw_all := lw_g (lw_at lw_m7 17 rfl) rfl
theorem q1599 : (Jvm.Cond.static ({ cls := "java/lang/StringUTF16", name := "putCharsSB", desc := "([BILjava/lang/CharSequence;II)V" } : Jvm.MethodName)) ∈ lw_all := lw_g (lw_at lw_m7 100 rfl) rfl
theorem q1600 : (Jvm.Cond.code ({ cls := "java/lang/StringUTF16", name := "putCharsSB", desc := "([BILjava/lang/CharSequence;II)V" } : Jvm.MethodName) prog_32_method_73_code (6 : Nat) (Option.none : Option Jvm.ClassFile.FieldType)) ∈ lw_all := lw_g (lw_at lw_m7 101 rfl) rfl
theorem q1601 : (Jvm.Cond.interfaceEntry "java/lang/StringUTF16" (388 : Nat)) ∈ lw_tbl := lw_at lw_m7 102 rfl
theorem q1602 : (Jvm.Cond.methodLink "java/lang/StringUTF16" (388 : Nat) ({ cls := "java/lang/CharSequence", name := "charAt", desc := "(I)C" } : Jvm.MethodName)) ∈ lw_all := lw_g (lw_at lw_m7 103 rfl) rfl
/-! java/util/AbstractCollection -/
def RJ4 : String := "java/util/AbstractCollection"
abbrev cJ4_init : ByteArray := prog_37_method_1_code
def yJ4_init : MethodName := ⟨RJ4, "<init>", "()V"⟩
abbrev cJ4_toArray : ByteArray := prog_37_method_6_code
def yJ4_toArray : MethodName := ⟨RJ4, "toArray", "()[Ljava/lang/Object;"⟩
abbrev cJ4_finishToArray : ByteArray := prog_37_method_8_code
def yJ4_finishToArray : MethodName := ⟨RJ4, "finishToArray", "([Ljava/lang/Object;Ljava/util/Iterator;)[Ljava/lang/Object;"⟩
theorem q65 : (Jvm.Cond.initialized "java/util/AbstractCollection") ∈ lw_all := lw_g (lw_at lw_m1 6 rfl) rfl
theorem q155 : (Jvm.Cond.instanceMethod ({ cls := "java/util/AbstractCollection", name := "<init>", desc := "()V" } : Jvm.MethodName)) ∈ lw_all := lw_g (lw_at lw_m1 96 rfl) rfl
theorem q156 : (Jvm.Cond.code ({ cls := "java/util/AbstractCollection", name := "<init>", desc := "()V" } : Jvm.MethodName) prog_37_method_1_code (1 : Nat) (Option.none : Option Jvm.ClassFile.FieldType)) ∈ lw_all := lw_g (lw_at lw_m1 97 rfl) rfl
theorem q157 : (Jvm.Cond.methodLink "java/util/AbstractCollection" (1 : Nat) ({ cls := "java/lang/Object", name := "<init>", desc := "()V" } : Jvm.MethodName)) ∈ lw_all := lw_g (lw_at lw_m1 98 rfl) rfl
theorem q1639 : (Jvm.Cond.instanceMethod ({ cls := "java/util/AbstractCollection", name := "toArray", desc := "()[Ljava/lang/Object;" } : Jvm.MethodName)) ∈ lw_all := lw_g (lw_at lw_m7 140 rfl) rfl
theorem q1640 : (Jvm.Cond.publicMethod ({ cls := "java/util/AbstractCollection", name := "toArray", desc := "()[Ljava/lang/Object;" } : Jvm.MethodName)) ∈ lw_tbl := lw_at lw_m7 141 rfl
theorem q1641 : (Jvm.Cond.code ({ cls := "java/util/AbstractCollection", name := "toArray", desc := "()[Ljava/lang/Object;" } : Jvm.MethodName) prog_37_method_6_code (4 : Nat) (Option.some (Jvm.ClassFile.FieldType.array (Jvm.ClassFile.FieldType.object "java/lang/Object")))) ∈ lw_all := lw_g (lw_at lw_m7 142 rfl) rfl
theorem q1642 : (Jvm.Cond.methodLink "java/util/AbstractCollection" (7 : Nat) ({ cls := "java/util/AbstractCollection", name := "size", desc := "()I" } : Jvm.MethodName)) ∈ lw_all := lw_g (lw_at lw_m7 143 rfl) rfl
theorem q1643 : (Jvm.Cond.declares ({ cls := "java/util/AbstractCollection", name := "size", desc := "()I" } : Jvm.MethodName)) ∈ lw_tbl := lw_at lw_m7 144 rfl
theorem q1644 : (Jvm.Cond.sameMethod "java/util/AbstractCollection" "java/util/AbstractCollection" "size" "()I") ∈ lw_all := lw_g (lw_at lw_m7 145 rfl) rfl
theorem q1650 : (Jvm.Cond.classLink "java/util/AbstractCollection" (2 : Nat) "java/lang/Object") ∈ lw_all := lw_g (lw_at lw_m7 151 rfl) rfl
theorem q1651 : (Jvm.Cond.methodLink "java/util/AbstractCollection" (13 : Nat) ({ cls := "java/util/AbstractCollection", name := "iterator", desc := "()Ljava/util/Iterator;" } : Jvm.MethodName)) ∈ lw_all := lw_g (lw_at lw_m7 152 rfl) rfl
theorem q1652 : (Jvm.Cond.declares ({ cls := "java/util/AbstractCollection", name := "iterator", desc := "()Ljava/util/Iterator;" } : Jvm.MethodName)) ∈ lw_tbl := lw_at lw_m7 153 rfl
theorem q1653 : (Jvm.Cond.sameMethod "java/util/AbstractCollection" "java/util/AbstractCollection" "iterator" "()Ljava/util/Iterator;") ∈ lw_all := lw_g (lw_at lw_m7 154 rfl) rfl
theorem q1656 : (Jvm.Cond.interfaceEntry "java/util/AbstractCollection" (17 : Nat)) ∈ lw_tbl := lw_at lw_m7 157 rfl
theorem q1657 : (Jvm.Cond.methodLink "java/util/AbstractCollection" (17 : Nat) ({ cls := "java/util/Iterator", name := "hasNext", desc := "()Z" } : Jvm.MethodName)) ∈ lw_all := lw_g (lw_at lw_m7 158 rfl) rfl
theorem q1658 : (Jvm.Cond.methodLink "java/util/AbstractCollection" (31 : Nat) ({ cls := "java/util/Arrays", name := "copyOf", desc := "([Ljava/lang/Object;I)[Ljava/lang/Object;" } : Jvm.MethodName)) ∈ lw_all := lw_g (lw_at lw_m7 159 rfl) rfl
theorem q1659 : (Jvm.Cond.interfaceEntry "java/util/AbstractCollection" (23 : Nat)) ∈ lw_tbl := lw_at lw_m7 160 rfl
theorem q1660 : (Jvm.Cond.methodLink "java/util/AbstractCollection" (23 : Nat) ({ cls := "java/util/Iterator", name := "next", desc := "()Ljava/lang/Object;" } : Jvm.MethodName)) ∈ lw_all := lw_g (lw_at lw_m7 161 rfl) rfl
theorem q1661 : (Jvm.Cond.methodLink "java/util/AbstractCollection" (37 : Nat) ({ cls := "java/util/AbstractCollection", name := "finishToArray", desc := "([Ljava/lang/Object;Ljava/util/Iterator;)[Ljava/lang/Object;" } : Jvm.MethodName)) ∈ lw_all := lw_g (lw_at lw_m7 162 rfl) rfl
theorem q1662 : (Jvm.Cond.static ({ cls := "java/util/AbstractCollection", name := "finishToArray", desc := "([Ljava/lang/Object;Ljava/util/Iterator;)[Ljava/lang/Object;" } : Jvm.MethodName)) ∈ lw_all := lw_g (lw_at lw_m7 163 rfl) rfl
theorem q1663 : (Jvm.Cond.code ({ cls := "java/util/AbstractCollection", name := "finishToArray", desc := "([Ljava/lang/Object;Ljava/util/Iterator;)[Ljava/lang/Object;" } : Jvm.MethodName) prog_37_method_8_code (4 : Nat) (Option.some (Jvm.ClassFile.FieldType.array (Jvm.ClassFile.FieldType.object "java/lang/Object")))) ∈ lw_all := lw_g (lw_at lw_m7 164 rfl) rfl
theorem q1664 : (Jvm.Cond.methodLink "java/util/AbstractCollection" (64 : Nat) ({ cls := "jdk/internal/util/ArraysSupport", name := "newLength", desc := "(III)I" } : Jvm.MethodName)) ∈ lw_all := lw_g (lw_at lw_m7 165 rfl) rfl
/-! java/util/AbstractList -/
def RJ5 : String := "java/util/AbstractList"
abbrev cJ5_init : ByteArray := prog_38_method_1_code
def yJ5_init : MethodName := ⟨RJ5, "<init>", "()V"⟩
theorem q66 : (Jvm.Cond.initialized "java/util/AbstractList") ∈ lw_all := lw_g (lw_at lw_m1 7 rfl) rfl
theorem q152 : (Jvm.Cond.instanceMethod ({ cls := "java/util/AbstractList", name := "<init>", desc := "()V" } : Jvm.MethodName)) ∈ lw_all := lw_g (lw_at lw_m1 93 rfl) rfl
theorem q153 : (Jvm.Cond.code ({ cls := "java/util/AbstractList", name := "<init>", desc := "()V" } : Jvm.MethodName) prog_38_method_1_code (1 : Nat) (Option.none : Option Jvm.ClassFile.FieldType)) ∈ lw_all := lw_g (lw_at lw_m1 94 rfl) rfl
theorem q154 : (Jvm.Cond.methodLink "java/util/AbstractList" (1 : Nat) ({ cls := "java/util/AbstractCollection", name := "<init>", desc := "()V" } : Jvm.MethodName)) ∈ lw_all := lw_g (lw_at lw_m1 95 rfl) rfl
theorem q164 : (Jvm.Cond.fieldLink "java/util/AbstractList" (7 : Nat) "java/util/AbstractList" "modCount" "I") ∈ lw_all := lw_g (lw_at lw_m1 105 rfl) rfl
theorem q173 : (Jvm.Cond.soleField "java/util/AbstractList" "modCount") ∈ lw_all := lw_g (lw_at lw_m1 114 rfl) rfl
/-! java/util/ArrayList -/
def RJ6 : String := "java/util/ArrayList"
def TJ6 : u_T := fun k => match k with
  | 0 => ("java/util/AbstractList", "modCount", "I", false)
  | 1 => ("java/util/ArrayList", "elementData", "[Ljava/lang/Object;", false)
  | _ => ("java/util/ArrayList", "size", "I", false)
def tyJ6 : Nat → FieldType := fun k => match k with
  | 0 => .int
  | 1 => .array (.object "java/lang/Object")
  | _ => .int
abbrev wsJ60 : List Cond := u_ws RJ6 TJ6 3
theorem nmJ6 : ∀ a, a < 3 → ∀ b, b < 3 → a ≠ b → (TJ6 a).2.1 ≠ (TJ6 b).2.1 := by decide +kernel
theorem tyJ6_ok : ∀ k, k < 3 → parseFieldDescriptor (TJ6 k).2.2.1 = some (tyJ6 k) := by decide +kernel
abbrev cJ6_init : ByteArray := prog_41_method_2_code
def yJ6_init : MethodName := ⟨RJ6, "<init>", "()V"⟩
abbrev cJ6_size : ByteArray := prog_41_method_8_code
def yJ6_size : MethodName := ⟨RJ6, "size", "()I"⟩
abbrev cJ6_iterator : ByteArray := prog_41_method_55_code
def yJ6_iterator : MethodName := ⟨RJ6, "iterator", "()Ljava/util/Iterator;"⟩
abbrev cJ6_add : ByteArray := prog_41_method_25_code
def yJ6_add : MethodName := ⟨RJ6, "add", "(Ljava/lang/Object;)Z"⟩
abbrev cJ6_add_2 : ByteArray := prog_41_method_24_code
def yJ6_add_2 : MethodName := ⟨RJ6, "add", "(Ljava/lang/Object;[Ljava/lang/Object;I)V"⟩
abbrev cJ6_grow : ByteArray := prog_41_method_7_code
def yJ6_grow : MethodName := ⟨RJ6, "grow", "()[Ljava/lang/Object;"⟩
abbrev cJ6_grow_2 : ByteArray := prog_41_method_6_code
def yJ6_grow_2 : MethodName := ⟨RJ6, "grow", "(I)[Ljava/lang/Object;"⟩
abbrev cJ6_get : ByteArray := prog_41_method_20_code
def yJ6_get : MethodName := ⟨RJ6, "get", "(I)Ljava/lang/Object;"⟩
abbrev cJ6_elementData : ByteArray := prog_41_method_18_code
def yJ6_elementData : MethodName := ⟨RJ6, "elementData", "(I)Ljava/lang/Object;"⟩
abbrev cJ6_addAll : ByteArray := prog_41_method_41_code
def yJ6_addAll : MethodName := ⟨RJ6, "addAll", "(Ljava/util/Collection;)Z"⟩
abbrev cJ6_toArray : ByteArray := prog_41_method_16_code
def yJ6_toArray : MethodName := ⟨RJ6, "toArray", "()[Ljava/lang/Object;"⟩
abbrev cJ6_set : ByteArray := prog_41_method_23_code
def yJ6_set : MethodName := ⟨RJ6, "set", "(ILjava/lang/Object;)Ljava/lang/Object;"⟩
theorem q67 : (Jvm.Cond.initialized "java/util/ArrayList") ∈ lw_all := lw_g (lw_at lw_m1 8 rfl) rfl
theorem q147 : (Jvm.Cond.instantiable "java/util/ArrayList" (3 : Nat)) ∈ lw_all := lw_g (lw_at lw_m1 88 rfl) rfl
theorem q149 : (Jvm.Cond.instanceMethod ({ cls := "java/util/ArrayList", name := "<init>", desc := "()V" } : Jvm.MethodName)) ∈ lw_all := lw_g (lw_at lw_m1 90 rfl) rfl
theorem q150 : (Jvm.Cond.code ({ cls := "java/util/ArrayList", name := "<init>", desc := "()V" } : Jvm.MethodName) prog_41_method_2_code (1 : Nat) (Option.none : Option Jvm.ClassFile.FieldType)) ∈ lw_all := lw_g (lw_at lw_m1 91 rfl) rfl
theorem q151 : (Jvm.Cond.methodLink "java/util/ArrayList" (1 : Nat) ({ cls := "java/util/AbstractList", name := "<init>", desc := "()V" } : Jvm.MethodName)) ∈ lw_all := lw_g (lw_at lw_m1 92 rfl) rfl
theorem q158 : (Jvm.Cond.fieldLink "java/util/ArrayList" (39 : Nat) "java/util/ArrayList" "DEFAULTCAPACITY_EMPTY_ELEMENTDATA" "[Ljava/lang/Object;") ∈ lw_all := lw_g (lw_at lw_m1 99 rfl) rfl
theorem q159 : (Jvm.Cond.laysStatic "java/util/ArrayList" "DEFAULTCAPACITY_EMPTY_ELEMENTDATA" "[Ljava/lang/Object;") ∈ lw_tbl := lw_at lw_m1 100 rfl
theorem q160 : (Jvm.Cond.fieldLink "java/util/ArrayList" (9 : Nat) "java/util/ArrayList" "elementData" "[Ljava/lang/Object;") ∈ lw_all := lw_g (lw_at lw_m1 101 rfl) rfl
theorem q163 : (Jvm.Cond.fieldLink "java/util/ArrayList" (48 : Nat) "java/util/ArrayList" "size" "I") ∈ lw_all := lw_g (lw_at lw_m1 104 rfl) rfl
theorem q166 : (Jvm.Cond.sameField "java/util/ArrayList" "java/util/AbstractList" "modCount" "I") ∈ lw_all := lw_g (lw_at lw_m1 107 rfl) rfl
theorem q167 : (Jvm.Cond.fieldLink "java/util/ArrayList" (63 : Nat) "java/util/ArrayList" "modCount" "I") ∈ lw_all := lw_g (lw_at lw_m1 108 rfl) rfl
theorem q168 : (Jvm.Cond.lays "java/util/ArrayList" "java/util/ArrayList" "elementData" "[Ljava/lang/Object;") ∈ lw_all := lw_g (lw_at lw_m1 109 rfl) rfl
theorem q169 : (Jvm.Cond.soleField "java/util/ArrayList" "elementData") ∈ lw_all := lw_g (lw_at lw_m1 110 rfl) rfl
theorem q170 : (Jvm.Cond.lays "java/util/ArrayList" "java/util/ArrayList" "size" "I") ∈ lw_all := lw_g (lw_at lw_m1 111 rfl) rfl
theorem q171 : (Jvm.Cond.soleField "java/util/ArrayList" "size") ∈ lw_all := lw_g (lw_at lw_m1 112 rfl) rfl
theorem q172 : (Jvm.Cond.lays "java/util/ArrayList" "java/util/AbstractList" "modCount" "I") ∈ lw_all := lw_g (lw_at lw_m1 113 rfl) rfl
theorem q174 : (Jvm.Cond.superclass "java/util/ArrayList" "java/util/AbstractList") ∈ lw_all := lw_g (lw_at lw_m1 115 rfl) rfl
theorem q654 : (Jvm.Cond.instanceMethod ({ cls := "java/util/ArrayList", name := "size", desc := "()I" } : Jvm.MethodName)) ∈ lw_all := lw_g (lw_at lw_m3 115 rfl) rfl
theorem q655 : (Jvm.Cond.selects "java/util/ArrayList" ({ cls := "java/util/ArrayList", name := "size", desc := "()I" } : Jvm.MethodName) ({ cls := "java/util/ArrayList", name := "size", desc := "()I" } : Jvm.MethodName)) ∈ lw_all := lw_g (lw_at lw_m3 116 rfl) rfl
theorem q656 : (Jvm.Cond.code ({ cls := "java/util/ArrayList", name := "size", desc := "()I" } : Jvm.MethodName) prog_41_method_8_code (1 : Nat) (Option.some Jvm.ClassFile.FieldType.int)) ∈ lw_all := lw_g (lw_at lw_m3 117 rfl) rfl
theorem q658 : (Jvm.Cond.instanceMethod ({ cls := "java/util/ArrayList", name := "iterator", desc := "()Ljava/util/Iterator;" } : Jvm.MethodName)) ∈ lw_all := lw_g (lw_at lw_m3 119 rfl) rfl
theorem q659 : (Jvm.Cond.selects "java/util/ArrayList" ({ cls := "java/util/ArrayList", name := "iterator", desc := "()Ljava/util/Iterator;" } : Jvm.MethodName) ({ cls := "java/util/ArrayList", name := "iterator", desc := "()Ljava/util/Iterator;" } : Jvm.MethodName)) ∈ lw_all := lw_g (lw_at lw_m3 120 rfl) rfl
theorem q660 : (Jvm.Cond.code ({ cls := "java/util/ArrayList", name := "iterator", desc := "()Ljava/util/Iterator;" } : Jvm.MethodName) prog_41_method_55_code (1 : Nat) (Option.some (Jvm.ClassFile.FieldType.object "java/util/Iterator"))) ∈ lw_all := lw_g (lw_at lw_m3 121 rfl) rfl
theorem q661 : (Jvm.Cond.classLink "java/util/ArrayList" (267 : Nat) "java/util/ArrayList$Itr") ∈ lw_all := lw_g (lw_at lw_m3 122 rfl) rfl
theorem q663 : (Jvm.Cond.methodLink "java/util/ArrayList" (269 : Nat) ({ cls := "java/util/ArrayList$Itr", name := "<init>", desc := "(Ljava/util/ArrayList;)V" } : Jvm.MethodName)) ∈ lw_all := lw_g (lw_at lw_m3 124 rfl) rfl
theorem q839 : (Jvm.Cond.instanceMethod ({ cls := "java/util/ArrayList", name := "add", desc := "(Ljava/lang/Object;)Z" } : Jvm.MethodName)) ∈ lw_all := lw_g (lw_at lw_m4 60 rfl) rfl
theorem q840 : (Jvm.Cond.selects "java/util/ArrayList" ({ cls := "java/util/ArrayList", name := "add", desc := "(Ljava/lang/Object;)Z" } : Jvm.MethodName) ({ cls := "java/util/ArrayList", name := "add", desc := "(Ljava/lang/Object;)Z" } : Jvm.MethodName)) ∈ lw_all := lw_g (lw_at lw_m4 61 rfl) rfl
theorem q841 : (Jvm.Cond.code ({ cls := "java/util/ArrayList", name := "add", desc := "(Ljava/lang/Object;)Z" } : Jvm.MethodName) prog_41_method_25_code (2 : Nat) (Option.some Jvm.ClassFile.FieldType.boolean)) ∈ lw_all := lw_g (lw_at lw_m4 62 rfl) rfl
theorem q842 : (Jvm.Cond.methodLink "java/util/ArrayList" (131 : Nat) ({ cls := "java/util/ArrayList", name := "add", desc := "(Ljava/lang/Object;[Ljava/lang/Object;I)V" } : Jvm.MethodName)) ∈ lw_all := lw_g (lw_at lw_m4 63 rfl) rfl
theorem q843 : (Jvm.Cond.privateMethod ({ cls := "java/util/ArrayList", name := "add", desc := "(Ljava/lang/Object;[Ljava/lang/Object;I)V" } : Jvm.MethodName)) ∈ lw_tbl := lw_at lw_m4 64 rfl
theorem q844 : (Jvm.Cond.instanceMethod ({ cls := "java/util/ArrayList", name := "add", desc := "(Ljava/lang/Object;[Ljava/lang/Object;I)V" } : Jvm.MethodName)) ∈ lw_all := lw_g (lw_at lw_m4 65 rfl) rfl
theorem q845 : (Jvm.Cond.code ({ cls := "java/util/ArrayList", name := "add", desc := "(Ljava/lang/Object;[Ljava/lang/Object;I)V" } : Jvm.MethodName) prog_41_method_24_code (4 : Nat) (Option.none : Option Jvm.ClassFile.FieldType)) ∈ lw_all := lw_g (lw_at lw_m4 66 rfl) rfl
theorem q846 : (Jvm.Cond.methodLink "java/util/ArrayList" (129 : Nat) ({ cls := "java/util/ArrayList", name := "grow", desc := "()[Ljava/lang/Object;" } : Jvm.MethodName)) ∈ lw_all := lw_g (lw_at lw_m4 67 rfl) rfl
theorem q847 : (Jvm.Cond.privateMethod ({ cls := "java/util/ArrayList", name := "grow", desc := "()[Ljava/lang/Object;" } : Jvm.MethodName)) ∈ lw_tbl := lw_at lw_m4 68 rfl
theorem q848 : (Jvm.Cond.instanceMethod ({ cls := "java/util/ArrayList", name := "grow", desc := "()[Ljava/lang/Object;" } : Jvm.MethodName)) ∈ lw_all := lw_g (lw_at lw_m4 69 rfl) rfl
theorem q849 : (Jvm.Cond.code ({ cls := "java/util/ArrayList", name := "grow", desc := "()[Ljava/lang/Object;" } : Jvm.MethodName) prog_41_method_7_code (1 : Nat) (Option.some (Jvm.ClassFile.FieldType.array (Jvm.ClassFile.FieldType.object "java/lang/Object")))) ∈ lw_all := lw_g (lw_at lw_m4 70 rfl) rfl
theorem q850 : (Jvm.Cond.methodLink "java/util/ArrayList" (69 : Nat) ({ cls := "java/util/ArrayList", name := "grow", desc := "(I)[Ljava/lang/Object;" } : Jvm.MethodName)) ∈ lw_all := lw_g (lw_at lw_m4 71 rfl) rfl
theorem q851 : (Jvm.Cond.privateMethod ({ cls := "java/util/ArrayList", name := "grow", desc := "(I)[Ljava/lang/Object;" } : Jvm.MethodName)) ∈ lw_tbl := lw_at lw_m4 72 rfl
theorem q852 : (Jvm.Cond.instanceMethod ({ cls := "java/util/ArrayList", name := "grow", desc := "(I)[Ljava/lang/Object;" } : Jvm.MethodName)) ∈ lw_all := lw_g (lw_at lw_m4 73 rfl) rfl
theorem q853 : (Jvm.Cond.code ({ cls := "java/util/ArrayList", name := "grow", desc := "(I)[Ljava/lang/Object;" } : Jvm.MethodName) prog_41_method_6_code (4 : Nat) (Option.some (Jvm.ClassFile.FieldType.array (Jvm.ClassFile.FieldType.object "java/lang/Object")))) ∈ lw_all := lw_g (lw_at lw_m4 74 rfl) rfl
theorem q854 : (Jvm.Cond.methodLink "java/util/ArrayList" (73 : Nat) ({ cls := "jdk/internal/util/ArraysSupport", name := "newLength", desc := "(III)I" } : Jvm.MethodName)) ∈ lw_all := lw_g (lw_at lw_m4 75 rfl) rfl
theorem q855 : (Jvm.Cond.methodLink "java/util/ArrayList" (66 : Nat) ({ cls := "java/util/Arrays", name := "copyOf", desc := "([Ljava/lang/Object;I)[Ljava/lang/Object;" } : Jvm.MethodName)) ∈ lw_all := lw_g (lw_at lw_m4 76 rfl) rfl
theorem q874 : (Jvm.Cond.selects "java/util/ArrayList" ({ cls := "java/lang/Object", name := "getClass", desc := "()Ljava/lang/Class;" } : Jvm.MethodName) ({ cls := "java/lang/Object", name := "getClass", desc := "()Ljava/lang/Class;" } : Jvm.MethodName)) ∈ lw_all := lw_g (lw_at lw_m4 95 rfl) rfl
theorem q889 : (Jvm.Cond.methodLink "java/util/ArrayList" (79 : Nat) ({ cls := "java/lang/Math", name := "max", desc := "(II)I" } : Jvm.MethodName)) ∈ lw_all := lw_g (lw_at lw_m4 110 rfl) rfl
theorem q890 : (Jvm.Cond.classLink "java/util/ArrayList" (7 : Nat) "java/lang/Object") ∈ lw_all := lw_g (lw_at lw_m4 111 rfl) rfl
theorem q1283 : (Jvm.Cond.instanceMethod ({ cls := "java/util/ArrayList", name := "get", desc := "(I)Ljava/lang/Object;" } : Jvm.MethodName)) ∈ lw_all := lw_g (lw_at lw_m6 24 rfl) rfl
theorem q1284 : (Jvm.Cond.selects "java/util/ArrayList" ({ cls := "java/util/ArrayList", name := "get", desc := "(I)Ljava/lang/Object;" } : Jvm.MethodName) ({ cls := "java/util/ArrayList", name := "get", desc := "(I)Ljava/lang/Object;" } : Jvm.MethodName)) ∈ lw_all := lw_g (lw_at lw_m6 25 rfl) rfl
theorem q1285 : (Jvm.Cond.code ({ cls := "java/util/ArrayList", name := "get", desc := "(I)Ljava/lang/Object;" } : Jvm.MethodName) prog_41_method_20_code (2 : Nat) (Option.some (Jvm.ClassFile.FieldType.object "java/lang/Object"))) ∈ lw_all := lw_g (lw_at lw_m6 26 rfl) rfl
theorem q1286 : (Jvm.Cond.methodLink "java/util/ArrayList" (118 : Nat) ({ cls := "java/util/Objects", name := "checkIndex", desc := "(II)I" } : Jvm.MethodName)) ∈ lw_all := lw_g (lw_at lw_m6 27 rfl) rfl
theorem q1290 : (Jvm.Cond.methodLink "java/util/ArrayList" (123 : Nat) ({ cls := "java/util/ArrayList", name := "elementData", desc := "(I)Ljava/lang/Object;" } : Jvm.MethodName)) ∈ lw_all := lw_g (lw_at lw_m6 31 rfl) rfl
theorem q1291 : (Jvm.Cond.instanceMethod ({ cls := "java/util/ArrayList", name := "elementData", desc := "(I)Ljava/lang/Object;" } : Jvm.MethodName)) ∈ lw_all := lw_g (lw_at lw_m6 32 rfl) rfl
theorem q1292 : (Jvm.Cond.selects "java/util/ArrayList" ({ cls := "java/util/ArrayList", name := "elementData", desc := "(I)Ljava/lang/Object;" } : Jvm.MethodName) ({ cls := "java/util/ArrayList", name := "elementData", desc := "(I)Ljava/lang/Object;" } : Jvm.MethodName)) ∈ lw_all := lw_g (lw_at lw_m6 33 rfl) rfl
theorem q1293 : (Jvm.Cond.code ({ cls := "java/util/ArrayList", name := "elementData", desc := "(I)Ljava/lang/Object;" } : Jvm.MethodName) prog_41_method_18_code (2 : Nat) (Option.some (Jvm.ClassFile.FieldType.object "java/lang/Object"))) ∈ lw_all := lw_g (lw_at lw_m6 34 rfl) rfl
theorem q1623 : (Jvm.Cond.instanceMethod ({ cls := "java/util/ArrayList", name := "addAll", desc := "(Ljava/util/Collection;)Z" } : Jvm.MethodName)) ∈ lw_all := lw_g (lw_at lw_m7 124 rfl) rfl
theorem q1624 : (Jvm.Cond.selects "java/util/ArrayList" ({ cls := "java/util/ArrayList", name := "addAll", desc := "(Ljava/util/Collection;)Z" } : Jvm.MethodName) ({ cls := "java/util/ArrayList", name := "addAll", desc := "(Ljava/util/Collection;)Z" } : Jvm.MethodName)) ∈ lw_all := lw_g (lw_at lw_m7 125 rfl) rfl
theorem q1625 : (Jvm.Cond.code ({ cls := "java/util/ArrayList", name := "addAll", desc := "(Ljava/util/Collection;)Z" } : Jvm.MethodName) prog_41_method_41_code (6 : Nat) (Option.some Jvm.ClassFile.FieldType.boolean)) ∈ lw_all := lw_g (lw_at lw_m7 126 rfl) rfl
theorem q1626 : (Jvm.Cond.interfaceEntry "java/util/ArrayList" (42 : Nat)) ∈ lw_tbl := lw_at lw_m7 127 rfl
theorem q1627 : (Jvm.Cond.methodLink "java/util/ArrayList" (42 : Nat) ({ cls := "java/util/Collection", name := "toArray", desc := "()[Ljava/lang/Object;" } : Jvm.MethodName)) ∈ lw_all := lw_g (lw_at lw_m7 128 rfl) rfl
theorem q1630 : (Jvm.Cond.castable "java/util/ArrayList" "java/util/Collection") ∈ lw_tbl := lw_at lw_m7 131 rfl
theorem q1631 : (Jvm.Cond.selects "java/util/ArrayList" ({ cls := "java/util/Collection", name := "toArray", desc := "()[Ljava/lang/Object;" } : Jvm.MethodName) ({ cls := "java/util/ArrayList", name := "toArray", desc := "()[Ljava/lang/Object;" } : Jvm.MethodName)) ∈ lw_all := lw_g (lw_at lw_m7 132 rfl) rfl
theorem q1632 : (Jvm.Cond.unhidden "java/util/ArrayList" "toArray" "()[Ljava/lang/Object;") ∈ lw_tbl := lw_at lw_m7 133 rfl
theorem q1633 : (Jvm.Cond.instanceMethod ({ cls := "java/util/ArrayList", name := "toArray", desc := "()[Ljava/lang/Object;" } : Jvm.MethodName)) ∈ lw_all := lw_g (lw_at lw_m7 134 rfl) rfl
theorem q1634 : (Jvm.Cond.publicMethod ({ cls := "java/util/ArrayList", name := "toArray", desc := "()[Ljava/lang/Object;" } : Jvm.MethodName)) ∈ lw_tbl := lw_at lw_m7 135 rfl
theorem q1635 : (Jvm.Cond.code ({ cls := "java/util/ArrayList", name := "toArray", desc := "()[Ljava/lang/Object;" } : Jvm.MethodName) prog_41_method_16_code (1 : Nat) (Option.some (Jvm.ClassFile.FieldType.array (Jvm.ClassFile.FieldType.object "java/lang/Object")))) ∈ lw_all := lw_g (lw_at lw_m7 136 rfl) rfl
theorem q1645 : (Jvm.Cond.selects "java/util/ArrayList" ({ cls := "java/util/AbstractCollection", name := "size", desc := "()I" } : Jvm.MethodName) ({ cls := "java/util/ArrayList", name := "size", desc := "()I" } : Jvm.MethodName)) ∈ lw_all := lw_g (lw_at lw_m7 146 rfl) rfl
theorem q1654 : (Jvm.Cond.selects "java/util/ArrayList" ({ cls := "java/util/AbstractCollection", name := "iterator", desc := "()Ljava/util/Iterator;" } : Jvm.MethodName) ({ cls := "java/util/ArrayList", name := "iterator", desc := "()Ljava/util/Iterator;" } : Jvm.MethodName)) ∈ lw_all := lw_g (lw_at lw_m7 155 rfl) rfl
theorem q1665 : (Jvm.Cond.methodLink "java/util/ArrayList" (112 : Nat) ({ cls := "java/lang/System", name := "arraycopy", desc := "(Ljava/lang/Object;ILjava/lang/Object;II)V" } : Jvm.MethodName)) ∈ lw_all := lw_g (lw_at lw_m7 166 rfl) rfl
theorem q1831 : (Jvm.Cond.instanceMethod ({ cls := "java/util/ArrayList", name := "set", desc := "(ILjava/lang/Object;)Ljava/lang/Object;" } : Jvm.MethodName)) ∈ lw_all := lw_g (lw_at lw_m8 92 rfl) rfl
theorem q1832 : (Jvm.Cond.selects "java/util/ArrayList" ({ cls := "java/util/ArrayList", name := "set", desc := "(ILjava/lang/Object;)Ljava/lang/Object;" } : Jvm.MethodName) ({ cls := "java/util/ArrayList", name := "set", desc := "(ILjava/lang/Object;)Ljava/lang/Object;" } : Jvm.MethodName)) ∈ lw_all := lw_g (lw_at lw_m8 93 rfl) rfl
theorem q1833 : (Jvm.Cond.code ({ cls := "java/util/ArrayList", name := "set", desc := "(ILjava/lang/Object;)Ljava/lang/Object;" } : Jvm.MethodName) prog_41_method_23_code (4 : Nat) (Option.some (Jvm.ClassFile.FieldType.object "java/lang/Object"))) ∈ lw_all := lw_g (lw_at lw_m8 94 rfl) rfl
theorem q2288 : (Jvm.Cond.castable "java/util/ArrayList" "java/lang/Object") ∈ lw_tbl := lw_at lw_m10 69 rfl
theorem in_J6 : ∀ w ∈ wsJ60, w ∈ lw_all := lw_in wsJ60 [172, 168, 170] (by decide +kernel) (by decide +kernel)
/-! java/util/AbstractMap -/
def RJ7 : String := "java/util/AbstractMap"
abbrev cJ7_init : ByteArray := prog_39_method_1_code
def yJ7_init : MethodName := ⟨RJ7, "<init>", "()V"⟩
theorem q68 : (Jvm.Cond.initialized "java/util/AbstractMap") ∈ lw_all := lw_g (lw_at lw_m1 9 rfl) rfl
theorem q181 : (Jvm.Cond.instanceMethod ({ cls := "java/util/AbstractMap", name := "<init>", desc := "()V" } : Jvm.MethodName)) ∈ lw_all := lw_g (lw_at lw_m1 122 rfl) rfl
theorem q182 : (Jvm.Cond.code ({ cls := "java/util/AbstractMap", name := "<init>", desc := "()V" } : Jvm.MethodName) prog_39_method_1_code (1 : Nat) (Option.none : Option Jvm.ClassFile.FieldType)) ∈ lw_all := lw_g (lw_at lw_m1 123 rfl) rfl
theorem q183 : (Jvm.Cond.methodLink "java/util/AbstractMap" (1 : Nat) ({ cls := "java/lang/Object", name := "<init>", desc := "()V" } : Jvm.MethodName)) ∈ lw_all := lw_g (lw_at lw_m1 124 rfl) rfl
theorem q205 : (Jvm.Cond.soleField "java/util/AbstractMap" "keySet") ∈ lw_all := lw_g (lw_at lw_m1 146 rfl) rfl
theorem q207 : (Jvm.Cond.soleField "java/util/AbstractMap" "values") ∈ lw_all := lw_g (lw_at lw_m1 148 rfl) rfl
/-! java/util/TreeMap -/
def RJ8 : String := "java/util/TreeMap"
def TJ8 : u_T := fun k => match k with
  | 0 => ("java/util/AbstractMap", "keySet", "Ljava/util/Set;", false)
  | 1 => ("java/util/AbstractMap", "values", "Ljava/util/Collection;", false)
  | 2 => ("java/util/TreeMap", "comparator", "Ljava/util/Comparator;", true)
  | 3 => ("java/util/TreeMap", "root", "Ljava/util/TreeMap$Entry;", false)
  | 4 => ("java/util/TreeMap", "size", "I", false)
  | 5 => ("java/util/TreeMap", "modCount", "I", false)
  | 6 => ("java/util/TreeMap", "entrySet", "Ljava/util/TreeMap$EntrySet;", false)
  | 7 => ("java/util/TreeMap", "navigableKeySet", "Ljava/util/TreeMap$KeySet;", false)
  | _ => ("java/util/TreeMap", "descendingMap", "Ljava/util/NavigableMap;", false)
def tyJ8 : Nat → FieldType := fun k => match k with
  | 0 => .object "java/util/Set"
  | 1 => .object "java/util/Collection"
  | 2 => .object "java/util/Comparator"
  | 3 => .object "java/util/TreeMap$Entry"
  | 4 => .int
  | 5 => .int
  | 6 => .object "java/util/TreeMap$EntrySet"
  | 7 => .object "java/util/TreeMap$KeySet"
  | _ => .object "java/util/NavigableMap"
abbrev wsJ80 : List Cond := u_ws RJ8 TJ8 9
theorem nmJ8 : ∀ a, a < 9 → ∀ b, b < 9 → a ≠ b → (TJ8 a).2.1 ≠ (TJ8 b).2.1 := by decide +kernel
theorem tyJ8_ok : ∀ k, k < 9 → parseFieldDescriptor (TJ8 k).2.2.1 = some (tyJ8 k) := by decide +kernel
abbrev cJ8_init : ByteArray := prog_58_method_1_code
def yJ8_init : MethodName := ⟨RJ8, "<init>", "()V"⟩
abbrev cJ8_successor : ByteArray := prog_58_method_74_code
def yJ8_successor : MethodName := ⟨RJ8, "successor", "(Ljava/util/TreeMap$Entry;)Ljava/util/TreeMap$Entry;"⟩
abbrev cJ8_size : ByteArray := prog_58_method_5_code
def yJ8_size : MethodName := ⟨RJ8, "size", "()I"⟩
abbrev cJ8_containsKey : ByteArray := prog_58_method_6_code
def yJ8_containsKey : MethodName := ⟨RJ8, "containsKey", "(Ljava/lang/Object;)Z"⟩
abbrev cJ8_getEntry : ByteArray := prog_58_method_15_code
def yJ8_getEntry : MethodName := ⟨RJ8, "getEntry", "(Ljava/lang/Object;)Ljava/util/TreeMap$Entry;"⟩
abbrev cJ8_getEntryUsingComparator : ByteArray := prog_58_method_16_code
def yJ8_getEntryUsingComparator : MethodName := ⟨RJ8, "getEntryUsingComparator", "(Ljava/lang/Object;)Ljava/util/TreeMap$Entry;"⟩
abbrev cJ8_put : ByteArray := prog_58_method_21_code
def yJ8_put : MethodName := ⟨RJ8, "put", "(Ljava/lang/Object;Ljava/lang/Object;)Ljava/lang/Object;"⟩
abbrev cJ8_put_2 : ByteArray := prog_58_method_31_code
def yJ8_put_2 : MethodName := ⟨RJ8, "put", "(Ljava/lang/Object;Ljava/lang/Object;Z)Ljava/lang/Object;"⟩
abbrev cJ8_addEntryToEmptyMap : ByteArray := prog_58_method_30_code
def yJ8_addEntryToEmptyMap : MethodName := ⟨RJ8, "addEntryToEmptyMap", "(Ljava/lang/Object;Ljava/lang/Object;)V"⟩
abbrev cJ8_compare : ByteArray := prog_58_method_67_code
def yJ8_compare : MethodName := ⟨RJ8, "compare", "(Ljava/lang/Object;Ljava/lang/Object;)I"⟩
abbrev cJ8_addEntry : ByteArray := prog_58_method_29_code
def yJ8_addEntry : MethodName := ⟨RJ8, "addEntry", "(Ljava/lang/Object;Ljava/lang/Object;Ljava/util/TreeMap$Entry;Z)V"⟩
abbrev cJ8_fixAfterInsertion : ByteArray := prog_58_method_83_code
def yJ8_fixAfterInsertion : MethodName := ⟨RJ8, "fixAfterInsertion", "(Ljava/util/TreeMap$Entry;)V"⟩
abbrev cJ8_parentOf : ByteArray := prog_58_method_77_code
def yJ8_parentOf : MethodName := ⟨RJ8, "parentOf", "(Ljava/util/TreeMap$Entry;)Ljava/util/TreeMap$Entry;"⟩
abbrev cJ8_leftOf : ByteArray := prog_58_method_79_code
def yJ8_leftOf : MethodName := ⟨RJ8, "leftOf", "(Ljava/util/TreeMap$Entry;)Ljava/util/TreeMap$Entry;"⟩
abbrev cJ8_rightOf : ByteArray := prog_58_method_80_code
def yJ8_rightOf : MethodName := ⟨RJ8, "rightOf", "(Ljava/util/TreeMap$Entry;)Ljava/util/TreeMap$Entry;"⟩
abbrev cJ8_colorOf : ByteArray := prog_58_method_76_code
def yJ8_colorOf : MethodName := ⟨RJ8, "colorOf", "(Ljava/util/TreeMap$Entry;)Z"⟩
abbrev cJ8_setColor : ByteArray := prog_58_method_78_code
def yJ8_setColor : MethodName := ⟨RJ8, "setColor", "(Ljava/util/TreeMap$Entry;Z)V"⟩
abbrev cJ8_rotateLeft : ByteArray := prog_58_method_81_code
def yJ8_rotateLeft : MethodName := ⟨RJ8, "rotateLeft", "(Ljava/util/TreeMap$Entry;)V"⟩
abbrev cJ8_rotateRight : ByteArray := prog_58_method_82_code
def yJ8_rotateRight : MethodName := ⟨RJ8, "rotateRight", "(Ljava/util/TreeMap$Entry;)V"⟩
abbrev cJ8_entrySet : ByteArray := prog_58_method_53_code
def yJ8_entrySet : MethodName := ⟨RJ8, "entrySet", "()Ljava/util/Set;"⟩
abbrev cJ8_getFirstEntry : ByteArray := prog_58_method_72_code
def yJ8_getFirstEntry : MethodName := ⟨RJ8, "getFirstEntry", "()Ljava/util/TreeMap$Entry;"⟩
abbrev cJ8_get : ByteArray := prog_58_method_8_code
def yJ8_get : MethodName := ⟨RJ8, "get", "(Ljava/lang/Object;)Ljava/lang/Object;"⟩
theorem q69 : (Jvm.Cond.initialized "java/util/TreeMap") ∈ lw_all := lw_g (lw_at lw_m1 10 rfl) rfl
theorem q176 : (Jvm.Cond.instantiable "java/util/TreeMap" (9 : Nat)) ∈ lw_all := lw_g (lw_at lw_m1 117 rfl) rfl
theorem q178 : (Jvm.Cond.instanceMethod ({ cls := "java/util/TreeMap", name := "<init>", desc := "()V" } : Jvm.MethodName)) ∈ lw_all := lw_g (lw_at lw_m1 119 rfl) rfl
theorem q179 : (Jvm.Cond.code ({ cls := "java/util/TreeMap", name := "<init>", desc := "()V" } : Jvm.MethodName) prog_58_method_1_code (1 : Nat) (Option.none : Option Jvm.ClassFile.FieldType)) ∈ lw_all := lw_g (lw_at lw_m1 120 rfl) rfl
theorem q180 : (Jvm.Cond.methodLink "java/util/TreeMap" (1 : Nat) ({ cls := "java/util/AbstractMap", name := "<init>", desc := "()V" } : Jvm.MethodName)) ∈ lw_all := lw_g (lw_at lw_m1 121 rfl) rfl
theorem q184 : (Jvm.Cond.fieldLink "java/util/TreeMap" (16 : Nat) "java/util/TreeMap" "comparator" "Ljava/util/Comparator;") ∈ lw_all := lw_g (lw_at lw_m1 125 rfl) rfl
theorem q185 : (Jvm.Cond.fieldLink "java/util/TreeMap" (101 : Nat) "java/util/TreeMap" "root" "Ljava/util/TreeMap$Entry;") ∈ lw_all := lw_g (lw_at lw_m1 126 rfl) rfl
theorem q186 : (Jvm.Cond.fieldLink "java/util/TreeMap" (7 : Nat) "java/util/TreeMap" "size" "I") ∈ lw_all := lw_g (lw_at lw_m1 127 rfl) rfl
theorem q187 : (Jvm.Cond.fieldLink "java/util/TreeMap" (13 : Nat) "java/util/TreeMap" "modCount" "I") ∈ lw_all := lw_g (lw_at lw_m1 128 rfl) rfl
theorem q189 : (Jvm.Cond.fieldLink "java/util/TreeMap" (188 : Nat) "java/util/TreeMap" "entrySet" "Ljava/util/TreeMap$EntrySet;") ∈ lw_all := lw_g (lw_at lw_m1 130 rfl) rfl
theorem q190 : (Jvm.Cond.laysFinal "java/util/TreeMap" "java/util/TreeMap" "comparator" "Ljava/util/Comparator;") ∈ lw_all := lw_g (lw_at lw_m1 131 rfl) rfl
theorem q191 : (Jvm.Cond.soleField "java/util/TreeMap" "comparator") ∈ lw_all := lw_g (lw_at lw_m1 132 rfl) rfl
theorem q192 : (Jvm.Cond.lays "java/util/TreeMap" "java/util/TreeMap" "root" "Ljava/util/TreeMap$Entry;") ∈ lw_all := lw_g (lw_at lw_m1 133 rfl) rfl
theorem q193 : (Jvm.Cond.soleField "java/util/TreeMap" "root") ∈ lw_all := lw_g (lw_at lw_m1 134 rfl) rfl
theorem q194 : (Jvm.Cond.lays "java/util/TreeMap" "java/util/TreeMap" "size" "I") ∈ lw_all := lw_g (lw_at lw_m1 135 rfl) rfl
theorem q195 : (Jvm.Cond.soleField "java/util/TreeMap" "size") ∈ lw_all := lw_g (lw_at lw_m1 136 rfl) rfl
theorem q196 : (Jvm.Cond.lays "java/util/TreeMap" "java/util/TreeMap" "modCount" "I") ∈ lw_all := lw_g (lw_at lw_m1 137 rfl) rfl
theorem q197 : (Jvm.Cond.soleField "java/util/TreeMap" "modCount") ∈ lw_all := lw_g (lw_at lw_m1 138 rfl) rfl
theorem q198 : (Jvm.Cond.lays "java/util/TreeMap" "java/util/TreeMap" "entrySet" "Ljava/util/TreeMap$EntrySet;") ∈ lw_all := lw_g (lw_at lw_m1 139 rfl) rfl
theorem q199 : (Jvm.Cond.soleField "java/util/TreeMap" "entrySet") ∈ lw_all := lw_g (lw_at lw_m1 140 rfl) rfl
theorem q200 : (Jvm.Cond.lays "java/util/TreeMap" "java/util/TreeMap" "navigableKeySet" "Ljava/util/TreeMap$KeySet;") ∈ lw_all := lw_g (lw_at lw_m1 141 rfl) rfl
theorem q201 : (Jvm.Cond.soleField "java/util/TreeMap" "navigableKeySet") ∈ lw_all := lw_g (lw_at lw_m1 142 rfl) rfl
theorem q202 : (Jvm.Cond.lays "java/util/TreeMap" "java/util/TreeMap" "descendingMap" "Ljava/util/NavigableMap;") ∈ lw_all := lw_g (lw_at lw_m1 143 rfl) rfl
theorem q203 : (Jvm.Cond.soleField "java/util/TreeMap" "descendingMap") ∈ lw_all := lw_g (lw_at lw_m1 144 rfl) rfl
theorem q204 : (Jvm.Cond.lays "java/util/TreeMap" "java/util/AbstractMap" "keySet" "Ljava/util/Set;") ∈ lw_all := lw_g (lw_at lw_m1 145 rfl) rfl
theorem q206 : (Jvm.Cond.lays "java/util/TreeMap" "java/util/AbstractMap" "values" "Ljava/util/Collection;") ∈ lw_all := lw_g (lw_at lw_m1 147 rfl) rfl
theorem q208 : (Jvm.Cond.superclass "java/util/TreeMap" "java/util/AbstractMap") ∈ lw_all := lw_g (lw_at lw_m1 149 rfl) rfl
theorem q725 : (Jvm.Cond.static ({ cls := "java/util/TreeMap", name := "successor", desc := "(Ljava/util/TreeMap$Entry;)Ljava/util/TreeMap$Entry;" } : Jvm.MethodName)) ∈ lw_all := lw_g (lw_at lw_m3 186 rfl) rfl
theorem q726 : (Jvm.Cond.code ({ cls := "java/util/TreeMap", name := "successor", desc := "(Ljava/util/TreeMap$Entry;)Ljava/util/TreeMap$Entry;" } : Jvm.MethodName) prog_58_method_74_code (3 : Nat) (Option.some (Jvm.ClassFile.FieldType.object "java/util/TreeMap$Entry"))) ∈ lw_all := lw_g (lw_at lw_m3 187 rfl) rfl
theorem q877 : (Jvm.Cond.selects "java/util/TreeMap" ({ cls := "java/lang/Object", name := "getClass", desc := "()Ljava/lang/Class;" } : Jvm.MethodName) ({ cls := "java/lang/Object", name := "getClass", desc := "()Ljava/lang/Class;" } : Jvm.MethodName)) ∈ lw_all := lw_g (lw_at lw_m4 98 rfl) rfl
theorem q925 : (Jvm.Cond.instanceMethod ({ cls := "java/util/TreeMap", name := "size", desc := "()I" } : Jvm.MethodName)) ∈ lw_all := lw_g (lw_at lw_m4 146 rfl) rfl
theorem q926 : (Jvm.Cond.selects "java/util/TreeMap" ({ cls := "java/util/TreeMap", name := "size", desc := "()I" } : Jvm.MethodName) ({ cls := "java/util/TreeMap", name := "size", desc := "()I" } : Jvm.MethodName)) ∈ lw_all := lw_g (lw_at lw_m4 147 rfl) rfl
theorem q927 : (Jvm.Cond.code ({ cls := "java/util/TreeMap", name := "size", desc := "()I" } : Jvm.MethodName) prog_58_method_5_code (1 : Nat) (Option.some Jvm.ClassFile.FieldType.int)) ∈ lw_all := lw_g (lw_at lw_m4 148 rfl) rfl
theorem q956 : (Jvm.Cond.instanceMethod ({ cls := "java/util/TreeMap", name := "containsKey", desc := "(Ljava/lang/Object;)Z" } : Jvm.MethodName)) ∈ lw_all := lw_g (lw_at lw_m4 177 rfl) rfl
theorem q957 : (Jvm.Cond.selects "java/util/TreeMap" ({ cls := "java/util/TreeMap", name := "containsKey", desc := "(Ljava/lang/Object;)Z" } : Jvm.MethodName) ({ cls := "java/util/TreeMap", name := "containsKey", desc := "(Ljava/lang/Object;)Z" } : Jvm.MethodName)) ∈ lw_all := lw_g (lw_at lw_m4 178 rfl) rfl
theorem q958 : (Jvm.Cond.code ({ cls := "java/util/TreeMap", name := "containsKey", desc := "(Ljava/lang/Object;)Z" } : Jvm.MethodName) prog_58_method_6_code (2 : Nat) (Option.some Jvm.ClassFile.FieldType.boolean)) ∈ lw_all := lw_g (lw_at lw_m4 179 rfl) rfl
theorem q959 : (Jvm.Cond.methodLink "java/util/TreeMap" (50 : Nat) ({ cls := "java/util/TreeMap", name := "getEntry", desc := "(Ljava/lang/Object;)Ljava/util/TreeMap$Entry;" } : Jvm.MethodName)) ∈ lw_all := lw_g (lw_at lw_m4 180 rfl) rfl
theorem q960 : (Jvm.Cond.instanceMethod ({ cls := "java/util/TreeMap", name := "getEntry", desc := "(Ljava/lang/Object;)Ljava/util/TreeMap$Entry;" } : Jvm.MethodName)) ∈ lw_all := lw_g (lw_at lw_m4 181 rfl) rfl
theorem q961 : (Jvm.Cond.selects "java/util/TreeMap" ({ cls := "java/util/TreeMap", name := "getEntry", desc := "(Ljava/lang/Object;)Ljava/util/TreeMap$Entry;" } : Jvm.MethodName) ({ cls := "java/util/TreeMap", name := "getEntry", desc := "(Ljava/lang/Object;)Ljava/util/TreeMap$Entry;" } : Jvm.MethodName)) ∈ lw_all := lw_g (lw_at lw_m4 182 rfl) rfl
theorem q962 : (Jvm.Cond.code ({ cls := "java/util/TreeMap", name := "getEntry", desc := "(Ljava/lang/Object;)Ljava/util/TreeMap$Entry;" } : Jvm.MethodName) prog_58_method_15_code (5 : Nat) (Option.some (Jvm.ClassFile.FieldType.object "java/util/TreeMap$Entry"))) ∈ lw_all := lw_g (lw_at lw_m4 183 rfl) rfl
theorem q963 : (Jvm.Cond.methodLink "java/util/TreeMap" (92 : Nat) ({ cls := "java/util/TreeMap", name := "getEntryUsingComparator", desc := "(Ljava/lang/Object;)Ljava/util/TreeMap$Entry;" } : Jvm.MethodName)) ∈ lw_all := lw_g (lw_at lw_m4 184 rfl) rfl
theorem q964 : (Jvm.Cond.instanceMethod ({ cls := "java/util/TreeMap", name := "getEntryUsingComparator", desc := "(Ljava/lang/Object;)Ljava/util/TreeMap$Entry;" } : Jvm.MethodName)) ∈ lw_all := lw_g (lw_at lw_m4 185 rfl) rfl
theorem q965 : (Jvm.Cond.selects "java/util/TreeMap" ({ cls := "java/util/TreeMap", name := "getEntryUsingComparator", desc := "(Ljava/lang/Object;)Ljava/util/TreeMap$Entry;" } : Jvm.MethodName) ({ cls := "java/util/TreeMap", name := "getEntryUsingComparator", desc := "(Ljava/lang/Object;)Ljava/util/TreeMap$Entry;" } : Jvm.MethodName)) ∈ lw_all := lw_g (lw_at lw_m4 186 rfl) rfl
theorem q966 : (Jvm.Cond.code ({ cls := "java/util/TreeMap", name := "getEntryUsingComparator", desc := "(Ljava/lang/Object;)Ljava/util/TreeMap$Entry;" } : Jvm.MethodName) prog_58_method_16_code (6 : Nat) (Option.some (Jvm.ClassFile.FieldType.object "java/util/TreeMap$Entry"))) ∈ lw_all := lw_g (lw_at lw_m4 187 rfl) rfl
theorem q967 : (Jvm.Cond.interfaceEntry "java/util/TreeMap" (117 : Nat)) ∈ lw_tbl := lw_at lw_m4 188 rfl
theorem q968 : (Jvm.Cond.methodLink "java/util/TreeMap" (117 : Nat) ({ cls := "java/util/Comparator", name := "compare", desc := "(Ljava/lang/Object;Ljava/lang/Object;)I" } : Jvm.MethodName)) ∈ lw_all := lw_g (lw_at lw_m4 189 rfl) rfl
theorem q971 : (Jvm.Cond.methodLink "java/util/TreeMap" (95 : Nat) ({ cls := "java/util/Objects", name := "requireNonNull", desc := "(Ljava/lang/Object;)Ljava/lang/Object;" } : Jvm.MethodName)) ∈ lw_all := lw_g (lw_at lw_m4 192 rfl) rfl
theorem q974 : (Jvm.Cond.classLink "java/util/TreeMap" (99 : Nat) "java/lang/Comparable") ∈ lw_all := lw_g (lw_at lw_m4 195 rfl) rfl
theorem q975 : (Jvm.Cond.interfaceEntry "java/util/TreeMap" (107 : Nat)) ∈ lw_tbl := lw_at lw_m4 196 rfl
theorem q976 : (Jvm.Cond.methodLink "java/util/TreeMap" (107 : Nat) ({ cls := "java/lang/Comparable", name := "compareTo", desc := "(Ljava/lang/Object;)I" } : Jvm.MethodName)) ∈ lw_all := lw_g (lw_at lw_m4 197 rfl) rfl
theorem q1312 : (Jvm.Cond.instanceMethod ({ cls := "java/util/TreeMap", name := "put", desc := "(Ljava/lang/Object;Ljava/lang/Object;)Ljava/lang/Object;" } : Jvm.MethodName)) ∈ lw_all := lw_g (lw_at lw_m6 53 rfl) rfl
theorem q1313 : (Jvm.Cond.selects "java/util/TreeMap" ({ cls := "java/util/TreeMap", name := "put", desc := "(Ljava/lang/Object;Ljava/lang/Object;)Ljava/lang/Object;" } : Jvm.MethodName) ({ cls := "java/util/TreeMap", name := "put", desc := "(Ljava/lang/Object;Ljava/lang/Object;)Ljava/lang/Object;" } : Jvm.MethodName)) ∈ lw_all := lw_g (lw_at lw_m6 54 rfl) rfl
theorem q1314 : (Jvm.Cond.code ({ cls := "java/util/TreeMap", name := "put", desc := "(Ljava/lang/Object;Ljava/lang/Object;)Ljava/lang/Object;" } : Jvm.MethodName) prog_58_method_21_code (3 : Nat) (Option.some (Jvm.ClassFile.FieldType.object "java/lang/Object"))) ∈ lw_all := lw_g (lw_at lw_m6 55 rfl) rfl
theorem q1315 : (Jvm.Cond.methodLink "java/util/TreeMap" (127 : Nat) ({ cls := "java/util/TreeMap", name := "put", desc := "(Ljava/lang/Object;Ljava/lang/Object;Z)Ljava/lang/Object;" } : Jvm.MethodName)) ∈ lw_all := lw_g (lw_at lw_m6 56 rfl) rfl
theorem q1316 : (Jvm.Cond.privateMethod ({ cls := "java/util/TreeMap", name := "put", desc := "(Ljava/lang/Object;Ljava/lang/Object;Z)Ljava/lang/Object;" } : Jvm.MethodName)) ∈ lw_tbl := lw_at lw_m6 57 rfl
theorem q1317 : (Jvm.Cond.instanceMethod ({ cls := "java/util/TreeMap", name := "put", desc := "(Ljava/lang/Object;Ljava/lang/Object;Z)Ljava/lang/Object;" } : Jvm.MethodName)) ∈ lw_all := lw_g (lw_at lw_m6 58 rfl) rfl
theorem q1318 : (Jvm.Cond.code ({ cls := "java/util/TreeMap", name := "put", desc := "(Ljava/lang/Object;Ljava/lang/Object;Z)Ljava/lang/Object;" } : Jvm.MethodName) prog_58_method_31_code (10 : Nat) (Option.some (Jvm.ClassFile.FieldType.object "java/lang/Object"))) ∈ lw_all := lw_g (lw_at lw_m6 59 rfl) rfl
theorem q1319 : (Jvm.Cond.methodLink "java/util/TreeMap" (135 : Nat) ({ cls := "java/util/TreeMap", name := "addEntryToEmptyMap", desc := "(Ljava/lang/Object;Ljava/lang/Object;)V" } : Jvm.MethodName)) ∈ lw_all := lw_g (lw_at lw_m6 60 rfl) rfl
theorem q1320 : (Jvm.Cond.privateMethod ({ cls := "java/util/TreeMap", name := "addEntryToEmptyMap", desc := "(Ljava/lang/Object;Ljava/lang/Object;)V" } : Jvm.MethodName)) ∈ lw_tbl := lw_at lw_m6 61 rfl
theorem q1321 : (Jvm.Cond.instanceMethod ({ cls := "java/util/TreeMap", name := "addEntryToEmptyMap", desc := "(Ljava/lang/Object;Ljava/lang/Object;)V" } : Jvm.MethodName)) ∈ lw_all := lw_g (lw_at lw_m6 62 rfl) rfl
theorem q1322 : (Jvm.Cond.code ({ cls := "java/util/TreeMap", name := "addEntryToEmptyMap", desc := "(Ljava/lang/Object;Ljava/lang/Object;)V" } : Jvm.MethodName) prog_58_method_30_code (3 : Nat) (Option.none : Option Jvm.ClassFile.FieldType)) ∈ lw_all := lw_g (lw_at lw_m6 63 rfl) rfl
theorem q1323 : (Jvm.Cond.methodLink "java/util/TreeMap" (123 : Nat) ({ cls := "java/util/TreeMap", name := "compare", desc := "(Ljava/lang/Object;Ljava/lang/Object;)I" } : Jvm.MethodName)) ∈ lw_all := lw_g (lw_at lw_m6 64 rfl) rfl
theorem q1324 : (Jvm.Cond.instanceMethod ({ cls := "java/util/TreeMap", name := "compare", desc := "(Ljava/lang/Object;Ljava/lang/Object;)I" } : Jvm.MethodName)) ∈ lw_all := lw_g (lw_at lw_m6 65 rfl) rfl
theorem q1325 : (Jvm.Cond.selects "java/util/TreeMap" ({ cls := "java/util/TreeMap", name := "compare", desc := "(Ljava/lang/Object;Ljava/lang/Object;)I" } : Jvm.MethodName) ({ cls := "java/util/TreeMap", name := "compare", desc := "(Ljava/lang/Object;Ljava/lang/Object;)I" } : Jvm.MethodName)) ∈ lw_all := lw_g (lw_at lw_m6 66 rfl) rfl
theorem q1326 : (Jvm.Cond.code ({ cls := "java/util/TreeMap", name := "compare", desc := "(Ljava/lang/Object;Ljava/lang/Object;)I" } : Jvm.MethodName) prog_58_method_67_code (3 : Nat) (Option.some Jvm.ClassFile.FieldType.int)) ∈ lw_all := lw_g (lw_at lw_m6 67 rfl) rfl
theorem q1327 : (Jvm.Cond.classLink "java/util/TreeMap" (59 : Nat) "java/util/TreeMap$Entry") ∈ lw_all := lw_g (lw_at lw_m6 68 rfl) rfl
theorem q1329 : (Jvm.Cond.methodLink "java/util/TreeMap" (167 : Nat) ({ cls := "java/util/TreeMap$Entry", name := "<init>", desc := "(Ljava/lang/Object;Ljava/lang/Object;Ljava/util/TreeMap$Entry;)V" } : Jvm.MethodName)) ∈ lw_all := lw_g (lw_at lw_m6 70 rfl) rfl
theorem q1334 : (Jvm.Cond.fieldLink "java/util/TreeMap" (105 : Nat) "java/util/TreeMap$Entry" "key" "Ljava/lang/Object;") ∈ lw_all := lw_g (lw_at lw_m6 75 rfl) rfl
theorem q1336 : (Jvm.Cond.fieldLink "java/util/TreeMap" (58 : Nat) "java/util/TreeMap$Entry" "value" "Ljava/lang/Object;") ∈ lw_all := lw_g (lw_at lw_m6 77 rfl) rfl
theorem q1337 : (Jvm.Cond.fieldLink "java/util/TreeMap" (111 : Nat) "java/util/TreeMap$Entry" "left" "Ljava/util/TreeMap$Entry;") ∈ lw_all := lw_g (lw_at lw_m6 78 rfl) rfl
theorem q1338 : (Jvm.Cond.fieldLink "java/util/TreeMap" (114 : Nat) "java/util/TreeMap$Entry" "right" "Ljava/util/TreeMap$Entry;") ∈ lw_all := lw_g (lw_at lw_m6 79 rfl) rfl
theorem q1340 : (Jvm.Cond.fieldLink "java/util/TreeMap" (124 : Nat) "java/util/TreeMap$Entry" "parent" "Ljava/util/TreeMap$Entry;") ∈ lw_all := lw_g (lw_at lw_m6 81 rfl) rfl
theorem q1342 : (Jvm.Cond.fieldLink "java/util/TreeMap" (290 : Nat) "java/util/TreeMap$Entry" "color" "Z") ∈ lw_all := lw_g (lw_at lw_m6 83 rfl) rfl
theorem q1356 : (Jvm.Cond.methodLink "java/util/TreeMap" (139 : Nat) ({ cls := "java/util/TreeMap", name := "addEntry", desc := "(Ljava/lang/Object;Ljava/lang/Object;Ljava/util/TreeMap$Entry;Z)V" } : Jvm.MethodName)) ∈ lw_all := lw_g (lw_at lw_m6 97 rfl) rfl
theorem q1357 : (Jvm.Cond.privateMethod ({ cls := "java/util/TreeMap", name := "addEntry", desc := "(Ljava/lang/Object;Ljava/lang/Object;Ljava/util/TreeMap$Entry;Z)V" } : Jvm.MethodName)) ∈ lw_tbl := lw_at lw_m6 98 rfl
theorem q1358 : (Jvm.Cond.instanceMethod ({ cls := "java/util/TreeMap", name := "addEntry", desc := "(Ljava/lang/Object;Ljava/lang/Object;Ljava/util/TreeMap$Entry;Z)V" } : Jvm.MethodName)) ∈ lw_all := lw_g (lw_at lw_m6 99 rfl) rfl
theorem q1359 : (Jvm.Cond.code ({ cls := "java/util/TreeMap", name := "addEntry", desc := "(Ljava/lang/Object;Ljava/lang/Object;Ljava/util/TreeMap$Entry;Z)V" } : Jvm.MethodName) prog_58_method_29_code (6 : Nat) (Option.none : Option Jvm.ClassFile.FieldType)) ∈ lw_all := lw_g (lw_at lw_m6 100 rfl) rfl
theorem q1360 : (Jvm.Cond.methodLink "java/util/TreeMap" (170 : Nat) ({ cls := "java/util/TreeMap", name := "fixAfterInsertion", desc := "(Ljava/util/TreeMap$Entry;)V" } : Jvm.MethodName)) ∈ lw_all := lw_g (lw_at lw_m6 101 rfl) rfl
theorem q1361 : (Jvm.Cond.privateMethod ({ cls := "java/util/TreeMap", name := "fixAfterInsertion", desc := "(Ljava/util/TreeMap$Entry;)V" } : Jvm.MethodName)) ∈ lw_tbl := lw_at lw_m6 102 rfl
theorem q1362 : (Jvm.Cond.instanceMethod ({ cls := "java/util/TreeMap", name := "fixAfterInsertion", desc := "(Ljava/util/TreeMap$Entry;)V" } : Jvm.MethodName)) ∈ lw_all := lw_g (lw_at lw_m6 103 rfl) rfl
theorem q1363 : (Jvm.Cond.code ({ cls := "java/util/TreeMap", name := "fixAfterInsertion", desc := "(Ljava/util/TreeMap$Entry;)V" } : Jvm.MethodName) prog_58_method_83_code (3 : Nat) (Option.none : Option Jvm.ClassFile.FieldType)) ∈ lw_all := lw_g (lw_at lw_m6 104 rfl) rfl
theorem q1364 : (Jvm.Cond.methodLink "java/util/TreeMap" (294 : Nat) ({ cls := "java/util/TreeMap", name := "parentOf", desc := "(Ljava/util/TreeMap$Entry;)Ljava/util/TreeMap$Entry;" } : Jvm.MethodName)) ∈ lw_all := lw_g (lw_at lw_m6 105 rfl) rfl
theorem q1365 : (Jvm.Cond.static ({ cls := "java/util/TreeMap", name := "parentOf", desc := "(Ljava/util/TreeMap$Entry;)Ljava/util/TreeMap$Entry;" } : Jvm.MethodName)) ∈ lw_all := lw_g (lw_at lw_m6 106 rfl) rfl
theorem q1366 : (Jvm.Cond.code ({ cls := "java/util/TreeMap", name := "parentOf", desc := "(Ljava/util/TreeMap$Entry;)Ljava/util/TreeMap$Entry;" } : Jvm.MethodName) prog_58_method_77_code (1 : Nat) (Option.some (Jvm.ClassFile.FieldType.object "java/util/TreeMap$Entry"))) ∈ lw_all := lw_g (lw_at lw_m6 107 rfl) rfl
theorem q1367 : (Jvm.Cond.methodLink "java/util/TreeMap" (297 : Nat) ({ cls := "java/util/TreeMap", name := "leftOf", desc := "(Ljava/util/TreeMap$Entry;)Ljava/util/TreeMap$Entry;" } : Jvm.MethodName)) ∈ lw_all := lw_g (lw_at lw_m6 108 rfl) rfl
theorem q1368 : (Jvm.Cond.static ({ cls := "java/util/TreeMap", name := "leftOf", desc := "(Ljava/util/TreeMap$Entry;)Ljava/util/TreeMap$Entry;" } : Jvm.MethodName)) ∈ lw_all := lw_g (lw_at lw_m6 109 rfl) rfl
theorem q1369 : (Jvm.Cond.code ({ cls := "java/util/TreeMap", name := "leftOf", desc := "(Ljava/util/TreeMap$Entry;)Ljava/util/TreeMap$Entry;" } : Jvm.MethodName) prog_58_method_79_code (1 : Nat) (Option.some (Jvm.ClassFile.FieldType.object "java/util/TreeMap$Entry"))) ∈ lw_all := lw_g (lw_at lw_m6 110 rfl) rfl
theorem q1370 : (Jvm.Cond.methodLink "java/util/TreeMap" (300 : Nat) ({ cls := "java/util/TreeMap", name := "rightOf", desc := "(Ljava/util/TreeMap$Entry;)Ljava/util/TreeMap$Entry;" } : Jvm.MethodName)) ∈ lw_all := lw_g (lw_at lw_m6 111 rfl) rfl
theorem q1371 : (Jvm.Cond.static ({ cls := "java/util/TreeMap", name := "rightOf", desc := "(Ljava/util/TreeMap$Entry;)Ljava/util/TreeMap$Entry;" } : Jvm.MethodName)) ∈ lw_all := lw_g (lw_at lw_m6 112 rfl) rfl
theorem q1372 : (Jvm.Cond.code ({ cls := "java/util/TreeMap", name := "rightOf", desc := "(Ljava/util/TreeMap$Entry;)Ljava/util/TreeMap$Entry;" } : Jvm.MethodName) prog_58_method_80_code (1 : Nat) (Option.some (Jvm.ClassFile.FieldType.object "java/util/TreeMap$Entry"))) ∈ lw_all := lw_g (lw_at lw_m6 113 rfl) rfl
theorem q1373 : (Jvm.Cond.methodLink "java/util/TreeMap" (303 : Nat) ({ cls := "java/util/TreeMap", name := "colorOf", desc := "(Ljava/util/TreeMap$Entry;)Z" } : Jvm.MethodName)) ∈ lw_all := lw_g (lw_at lw_m6 114 rfl) rfl
theorem q1374 : (Jvm.Cond.static ({ cls := "java/util/TreeMap", name := "colorOf", desc := "(Ljava/util/TreeMap$Entry;)Z" } : Jvm.MethodName)) ∈ lw_all := lw_g (lw_at lw_m6 115 rfl) rfl
theorem q1375 : (Jvm.Cond.code ({ cls := "java/util/TreeMap", name := "colorOf", desc := "(Ljava/util/TreeMap$Entry;)Z" } : Jvm.MethodName) prog_58_method_76_code (1 : Nat) (Option.some Jvm.ClassFile.FieldType.boolean)) ∈ lw_all := lw_g (lw_at lw_m6 116 rfl) rfl
theorem q1376 : (Jvm.Cond.methodLink "java/util/TreeMap" (307 : Nat) ({ cls := "java/util/TreeMap", name := "setColor", desc := "(Ljava/util/TreeMap$Entry;Z)V" } : Jvm.MethodName)) ∈ lw_all := lw_g (lw_at lw_m6 117 rfl) rfl
theorem q1377 : (Jvm.Cond.static ({ cls := "java/util/TreeMap", name := "setColor", desc := "(Ljava/util/TreeMap$Entry;Z)V" } : Jvm.MethodName)) ∈ lw_all := lw_g (lw_at lw_m6 118 rfl) rfl
theorem q1378 : (Jvm.Cond.code ({ cls := "java/util/TreeMap", name := "setColor", desc := "(Ljava/util/TreeMap$Entry;Z)V" } : Jvm.MethodName) prog_58_method_78_code (2 : Nat) (Option.none : Option Jvm.ClassFile.FieldType)) ∈ lw_all := lw_g (lw_at lw_m6 119 rfl) rfl
theorem q1379 : (Jvm.Cond.methodLink "java/util/TreeMap" (311 : Nat) ({ cls := "java/util/TreeMap", name := "rotateLeft", desc := "(Ljava/util/TreeMap$Entry;)V" } : Jvm.MethodName)) ∈ lw_all := lw_g (lw_at lw_m6 120 rfl) rfl
theorem q1380 : (Jvm.Cond.privateMethod ({ cls := "java/util/TreeMap", name := "rotateLeft", desc := "(Ljava/util/TreeMap$Entry;)V" } : Jvm.MethodName)) ∈ lw_tbl := lw_at lw_m6 121 rfl
theorem q1381 : (Jvm.Cond.instanceMethod ({ cls := "java/util/TreeMap", name := "rotateLeft", desc := "(Ljava/util/TreeMap$Entry;)V" } : Jvm.MethodName)) ∈ lw_all := lw_g (lw_at lw_m6 122 rfl) rfl
theorem q1382 : (Jvm.Cond.code ({ cls := "java/util/TreeMap", name := "rotateLeft", desc := "(Ljava/util/TreeMap$Entry;)V" } : Jvm.MethodName) prog_58_method_81_code (3 : Nat) (Option.none : Option Jvm.ClassFile.FieldType)) ∈ lw_all := lw_g (lw_at lw_m6 123 rfl) rfl
theorem q1383 : (Jvm.Cond.methodLink "java/util/TreeMap" (314 : Nat) ({ cls := "java/util/TreeMap", name := "rotateRight", desc := "(Ljava/util/TreeMap$Entry;)V" } : Jvm.MethodName)) ∈ lw_all := lw_g (lw_at lw_m6 124 rfl) rfl
theorem q1384 : (Jvm.Cond.privateMethod ({ cls := "java/util/TreeMap", name := "rotateRight", desc := "(Ljava/util/TreeMap$Entry;)V" } : Jvm.MethodName)) ∈ lw_tbl := lw_at lw_m6 125 rfl
theorem q1385 : (Jvm.Cond.instanceMethod ({ cls := "java/util/TreeMap", name := "rotateRight", desc := "(Ljava/util/TreeMap$Entry;)V" } : Jvm.MethodName)) ∈ lw_all := lw_g (lw_at lw_m6 126 rfl) rfl
theorem q1386 : (Jvm.Cond.code ({ cls := "java/util/TreeMap", name := "rotateRight", desc := "(Ljava/util/TreeMap$Entry;)V" } : Jvm.MethodName) prog_58_method_82_code (3 : Nat) (Option.none : Option Jvm.ClassFile.FieldType)) ∈ lw_all := lw_g (lw_at lw_m6 127 rfl) rfl
theorem q1420 : (Jvm.Cond.instanceMethod ({ cls := "java/util/TreeMap", name := "entrySet", desc := "()Ljava/util/Set;" } : Jvm.MethodName)) ∈ lw_all := lw_g (lw_at lw_m6 161 rfl) rfl
theorem q1421 : (Jvm.Cond.selects "java/util/TreeMap" ({ cls := "java/util/TreeMap", name := "entrySet", desc := "()Ljava/util/Set;" } : Jvm.MethodName) ({ cls := "java/util/TreeMap", name := "entrySet", desc := "()Ljava/util/Set;" } : Jvm.MethodName)) ∈ lw_all := lw_g (lw_at lw_m6 162 rfl) rfl
theorem q1422 : (Jvm.Cond.code ({ cls := "java/util/TreeMap", name := "entrySet", desc := "()Ljava/util/Set;" } : Jvm.MethodName) prog_58_method_53_code (2 : Nat) (Option.some (Jvm.ClassFile.FieldType.object "java/util/Set"))) ∈ lw_all := lw_g (lw_at lw_m6 163 rfl) rfl
theorem q1423 : (Jvm.Cond.classLink "java/util/TreeMap" (242 : Nat) "java/util/TreeMap$EntrySet") ∈ lw_all := lw_g (lw_at lw_m6 164 rfl) rfl
theorem q1425 : (Jvm.Cond.methodLink "java/util/TreeMap" (244 : Nat) ({ cls := "java/util/TreeMap$EntrySet", name := "<init>", desc := "(Ljava/util/TreeMap;)V" } : Jvm.MethodName)) ∈ lw_all := lw_g (lw_at lw_m6 166 rfl) rfl
theorem q1449 : (Jvm.Cond.instanceMethod ({ cls := "java/util/TreeMap", name := "getFirstEntry", desc := "()Ljava/util/TreeMap$Entry;" } : Jvm.MethodName)) ∈ lw_all := lw_g (lw_at lw_m6 190 rfl) rfl
theorem q1450 : (Jvm.Cond.selects "java/util/TreeMap" ({ cls := "java/util/TreeMap", name := "getFirstEntry", desc := "()Ljava/util/TreeMap$Entry;" } : Jvm.MethodName) ({ cls := "java/util/TreeMap", name := "getFirstEntry", desc := "()Ljava/util/TreeMap$Entry;" } : Jvm.MethodName)) ∈ lw_all := lw_g (lw_at lw_m6 191 rfl) rfl
theorem q1451 : (Jvm.Cond.code ({ cls := "java/util/TreeMap", name := "getFirstEntry", desc := "()Ljava/util/TreeMap$Entry;" } : Jvm.MethodName) prog_58_method_72_code (2 : Nat) (Option.some (Jvm.ClassFile.FieldType.object "java/util/TreeMap$Entry"))) ∈ lw_all := lw_g (lw_at lw_m6 192 rfl) rfl
theorem q1777 : (Jvm.Cond.instanceMethod ({ cls := "java/util/TreeMap", name := "get", desc := "(Ljava/lang/Object;)Ljava/lang/Object;" } : Jvm.MethodName)) ∈ lw_all := lw_g (lw_at lw_m8 38 rfl) rfl
theorem q1778 : (Jvm.Cond.selects "java/util/TreeMap" ({ cls := "java/util/TreeMap", name := "get", desc := "(Ljava/lang/Object;)Ljava/lang/Object;" } : Jvm.MethodName) ({ cls := "java/util/TreeMap", name := "get", desc := "(Ljava/lang/Object;)Ljava/lang/Object;" } : Jvm.MethodName)) ∈ lw_all := lw_g (lw_at lw_m8 39 rfl) rfl
theorem q1779 : (Jvm.Cond.code ({ cls := "java/util/TreeMap", name := "get", desc := "(Ljava/lang/Object;)Ljava/lang/Object;" } : Jvm.MethodName) prog_58_method_8_code (3 : Nat) (Option.some (Jvm.ClassFile.FieldType.object "java/lang/Object"))) ∈ lw_all := lw_g (lw_at lw_m8 40 rfl) rfl
theorem q2289 : (Jvm.Cond.castable "java/util/TreeMap" "java/lang/Object") ∈ lw_tbl := lw_at lw_m10 70 rfl
theorem in_J8 : ∀ w ∈ wsJ80, w ∈ lw_all := lw_in wsJ80 [204, 206, 190, 192, 194, 196, 198, 200, 202] (by decide +kernel) (by decide +kernel)
/-! ExchangeTextModel -/
def RX2 : String := "ExchangeTextModel"
def TX2 : u_T := fun k => match k with
  | 0 => ("ExchangeTextModel", "thrown", "I", false)
  | 1 => ("ExchangeTextModel", "size", "I", false)
  | 2 => ("ExchangeTextModel", "text", "[I", true)
  | 3 => ("ExchangeTextModel", "out", "[I", true)
  | 4 => ("ExchangeTextModel", "kinds", "[I", true)
  | 5 => ("ExchangeTextModel", "kindLetters", "[I", true)
  | 6 => ("ExchangeTextModel", "kindNames", "[I", true)
  | 7 => ("ExchangeTextModel", "kindParts", "[I", true)
  | 8 => ("ExchangeTextModel", "kindSorts", "[I", true)
  | 9 => ("ExchangeTextModel", "kindMay", "[Z", true)
  | 10 => ("ExchangeTextModel", "lines", "[I", true)
  | 11 => ("ExchangeTextModel", "numbers", "[I", true)
  | 12 => ("ExchangeTextModel", "letters", "[I", true)
  | 13 => ("ExchangeTextModel", "names", "[I", true)
  | 14 => ("ExchangeTextModel", "parts", "[I", true)
  | 15 => ("ExchangeTextModel", "sorts", "[I", true)
  | 16 => ("ExchangeTextModel", "values", "[I", true)
  | 17 => ("ExchangeTextModel", "items", "[I", true)
  | 18 => ("ExchangeTextModel", "at", "I", false)
  | 19 => ("ExchangeTextModel", "fault", "I", false)
  | 20 => ("ExchangeTextModel", "from", "I", false)
  | 21 => ("ExchangeTextModel", "depths", "[I", true)
  | 22 => ("ExchangeTextModel", "likes", "[I", true)
  | 23 => ("ExchangeTextModel", "ways", "[J", true)
  | _ => ("ExchangeTextModel", "written", "I", false)
def tyX2 : Nat → FieldType := fun k => match k with
  | 0 => .int
  | 1 => .int
  | 2 => .array .int
  | 3 => .array .int
  | 4 => .array .int
  | 5 => .array .int
  | 6 => .array .int
  | 7 => .array .int
  | 8 => .array .int
  | 9 => .array .boolean
  | 10 => .array .int
  | 11 => .array .int
  | 12 => .array .int
  | 13 => .array .int
  | 14 => .array .int
  | 15 => .array .int
  | 16 => .array .int
  | 17 => .array .int
  | 18 => .int
  | 19 => .int
  | 20 => .int
  | 21 => .array .int
  | 22 => .array .int
  | 23 => .array .long
  | _ => .int
abbrev wsX20 : List Cond := u_ws RX2 TX2 25
theorem nmX2 : ∀ a, a < 25 → ∀ b, b < 25 → a ≠ b → (TX2 a).2.1 ≠ (TX2 b).2.1 := by decide +kernel
theorem tyX2_ok : ∀ k, k < 25 → parseFieldDescriptor (TX2 k).2.2.1 = some (tyX2 k) := by decide +kernel
abbrev cX2_init : ByteArray := prog_9_method_1_code
def yX2_init : MethodName := ⟨RX2, "<init>", "()V"⟩
abbrev cX2_thrown : ByteArray := prog_9_method_2_code
def yX2_thrown : MethodName := ⟨RX2, "thrown", "()I"⟩
abbrev cX2_say : ByteArray := prog_9_method_4_code
def yX2_say : MethodName := ⟨RX2, "say", "(J)I"⟩
abbrev cX2_fails : ByteArray := prog_9_method_3_code
def yX2_fails : MethodName := ⟨RX2, "fails", "(ZI)Z"⟩
abbrev cX2_trim : ByteArray := prog_9_method_5_code
def yX2_trim : MethodName := ⟨RX2, "trim", "(I)I"⟩
abbrev cX2_charAt : ByteArray := prog_9_method_6_code
def yX2_charAt : MethodName := ⟨RX2, "charAt", "(I)I"⟩
abbrev cX2_schema : ByteArray := prog_9_method_20_code
def yX2_schema : MethodName := ⟨RX2, "schema", "()I"⟩
abbrev cX2_peek : ByteArray := prog_9_method_7_code
def yX2_peek : MethodName := ⟨RX2, "peek", "()I"⟩
abbrev cX2_kind : ByteArray := prog_9_method_19_code
def yX2_kind : MethodName := ⟨RX2, "kind", "()V"⟩
abbrev cX2_wrongAt : ByteArray := prog_9_method_10_code
def yX2_wrongAt : MethodName := ⟨RX2, "wrongAt", "(I)V"⟩
abbrev cX2_name : ByteArray := prog_9_method_13_code
def yX2_name : MethodName := ⟨RX2, "name", "([II)I"⟩
abbrev cX2_isLetter : ByteArray := prog_9_method_9_code
def yX2_isLetter : MethodName := ⟨RX2, "isLetter", "(I)Z"⟩
abbrev cX2_isSame : ByteArray := prog_9_method_18_code
def yX2_isSame : MethodName := ⟨RX2, "isSame", "([II[III)Z"⟩
abbrev cX2_sign : ByteArray := prog_9_method_11_code
def yX2_sign : MethodName := ⟨RX2, "sign", "(I)V"⟩
abbrev cX2_sortOf : ByteArray := prog_9_method_17_code
def yX2_sortOf : MethodName := ⟨RX2, "sortOf", "(I)I"⟩
abbrev cX2_read : ByteArray := prog_9_method_28_code
def yX2_read : MethodName := ⟨RX2, "read", "()I"⟩
abbrev cX2_oneLine : ByteArray := prog_9_method_25_code
def yX2_oneLine : MethodName := ⟨RX2, "oneLine", "()V"⟩
abbrev cX2_digits : ByteArray := prog_9_method_12_code
def yX2_digits : MethodName := ⟨RX2, "digits", "(II)I"⟩
abbrev cX2_isDigit : ByteArray := prog_9_method_8_code
def yX2_isDigit : MethodName := ⟨RX2, "isDigit", "(I)Z"⟩
abbrev cX2_find : ByteArray := prog_9_method_21_code
def yX2_find : MethodName := ⟨RX2, "find", "(II)I"⟩
abbrev cX2_argument : ByteArray := prog_9_method_24_code
def yX2_argument : MethodName := ⟨RX2, "argument", "(I)V"⟩
abbrev cX2_beginsNumber : ByteArray := prog_9_method_16_code
def yX2_beginsNumber : MethodName := ⟨RX2, "beginsNumber", "(I)Z"⟩
abbrev cX2_number : ByteArray := prog_9_method_14_code
def yX2_number : MethodName := ⟨RX2, "number", "()I"⟩
abbrev cX2_writing : ByteArray := prog_9_method_22_code
def yX2_writing : MethodName := ⟨RX2, "writing", "(I)V"⟩
abbrev cX2_reference : ByteArray := prog_9_method_15_code
def yX2_reference : MethodName := ⟨RX2, "reference", "()I"⟩
abbrev cX2_list : ByteArray := prog_9_method_23_code
def yX2_list : MethodName := ⟨RX2, "list", "(I)V"⟩
abbrev cX2_isMissing : ByteArray := prog_9_method_26_code
def yX2_isMissing : MethodName := ⟨RX2, "isMissing", "(I)Z"⟩
abbrev cX2_copy : ByteArray := prog_9_method_27_code
def yX2_copy : MethodName := ⟨RX2, "copy", "(II)V"⟩
abbrev cX2_write : ByteArray := prog_9_method_32_code
def yX2_write : MethodName := ⟨RX2, "write", "()I"⟩
abbrev cX2_put : ByteArray := prog_9_method_29_code
def yX2_put : MethodName := ⟨RX2, "put", "(I)V"⟩
abbrev cX2_putNumber : ByteArray := prog_9_method_30_code
def yX2_putNumber : MethodName := ⟨RX2, "putNumber", "(I)V"⟩
abbrev cX2_putArgument : ByteArray := prog_9_method_31_code
def yX2_putArgument : MethodName := ⟨RX2, "putArgument", "(I)V"⟩
abbrev cX2_keep : ByteArray := prog_9_method_33_code
def yX2_keep : MethodName := ⟨RX2, "keep", "()I"⟩
abbrev cX2_line : ByteArray := prog_9_method_34_code
def yX2_line : MethodName := ⟨RX2, "line", "(I)I"⟩
abbrev cX2_told : ByteArray := prog_9_method_41_code
def yX2_told : MethodName := ⟨RX2, "told", "(II)I"⟩
abbrev cX2_findDepths : ByteArray := prog_9_method_40_code
def yX2_findDepths : MethodName := ⟨RX2, "findDepths", "()V"⟩
abbrev cX2_findWays : ByteArray := prog_9_method_39_code
def yX2_findWays : MethodName := ⟨RX2, "findWays", "()V"⟩
abbrev cX2_references : ByteArray := prog_9_method_36_code
def yX2_references : MethodName := ⟨RX2, "references", "(I)I"⟩
abbrev cX2_referred : ByteArray := prog_9_method_37_code
def yX2_referred : MethodName := ⟨RX2, "referred", "(II)I"⟩
abbrev cX2_kindOf : ByteArray := prog_9_method_35_code
def yX2_kindOf : MethodName := ⟨RX2, "kindOf", "(I)I"⟩
abbrev cX2_referencesOf : ByteArray := prog_9_method_38_code
def yX2_referencesOf : MethodName := ⟨RX2, "referencesOf", "(I)I"⟩
abbrev cX2_argument_2 : ByteArray := prog_9_method_43_code
def yX2_argument_2 : MethodName := ⟨RX2, "argument", "(III)I"⟩
abbrev cX2_argumentAt : ByteArray := prog_9_method_42_code
def yX2_argumentAt : MethodName := ⟨RX2, "argumentAt", "(II)I"⟩
abbrev cX2_item : ByteArray := prog_9_method_44_code
def yX2_item : MethodName := ⟨RX2, "item", "(III)I"⟩
abbrev cX2_set : ByteArray := prog_9_method_45_code
def yX2_set : MethodName := ⟨RX2, "set", "(III)I"⟩
abbrev cX2_wrong : ByteArray := prog_9_method_47_code
def yX2_wrong : MethodName := ⟨RX2, "wrong", "(II)I"⟩
abbrev cX2_firstWrong : ByteArray := prog_9_method_46_code
def yX2_firstWrong : MethodName := ⟨RX2, "firstWrong", "(II)I"⟩
abbrev cX2_from : ByteArray := prog_9_method_48_code
def yX2_from : MethodName := ⟨RX2, "from", "(II)I"⟩
abbrev cX2_ring : ByteArray := prog_9_method_50_code
def yX2_ring : MethodName := ⟨RX2, "ring", "(I)I"⟩
abbrev cX2_isOnRing : ByteArray := prog_9_method_49_code
def yX2_isOnRing : MethodName := ⟨RX2, "isOnRing", "(I)Z"⟩
abbrev cX2_place : ByteArray := prog_9_method_52_code
def yX2_place : MethodName := ⟨RX2, "place", "(II)J"⟩
abbrev cX2_isPlaced : ByteArray := prog_9_method_51_code
def yX2_isPlaced : MethodName := ⟨RX2, "isPlaced", "(I)Z"⟩
abbrev cX2_alike : ByteArray := prog_9_method_56_code
def yX2_alike : MethodName := ⟨RX2, "alike", "(II)Z"⟩
abbrev cX2_findLikes : ByteArray := prog_9_method_55_code
def yX2_findLikes : MethodName := ⟨RX2, "findLikes", "()V"⟩
abbrev cX2_isLineAlike : ByteArray := prog_9_method_54_code
def yX2_isLineAlike : MethodName := ⟨RX2, "isLineAlike", "(II)Z"⟩
abbrev cX2_isArgumentAlike : ByteArray := prog_9_method_53_code
def yX2_isArgumentAlike : MethodName := ⟨RX2, "isArgumentAlike", "(II)Z"⟩
abbrev cX2_join : ByteArray := prog_9_method_57_code
def yX2_join : MethodName := ⟨RX2, "join", "()I"⟩
abbrev cX2_differs : ByteArray := prog_9_method_59_code
def yX2_differs : MethodName := ⟨RX2, "differs", "(II)I"⟩
abbrev cX2_isLineSame : ByteArray := prog_9_method_58_code
def yX2_isLineSame : MethodName := ⟨RX2, "isLineSame", "(II)Z"⟩
abbrev cX2_count : ByteArray := prog_9_method_60_code
def yX2_count : MethodName := ⟨RX2, "count", "(I)I"⟩
theorem q70 : (Jvm.Cond.initialized "ExchangeTextModel") ∈ lw_all := lw_g (lw_at lw_m1 11 rfl) rfl
theorem q868 : (Jvm.Cond.selects "ExchangeTextModel" ({ cls := "java/lang/Object", name := "getClass", desc := "()Ljava/lang/Class;" } : Jvm.MethodName) ({ cls := "java/lang/Object", name := "getClass", desc := "()Ljava/lang/Class;" } : Jvm.MethodName)) ∈ lw_all := lw_g (lw_at lw_m4 89 rfl) rfl
theorem q1940 : (Jvm.Cond.instantiable "ExchangeTextModel" (25 : Nat)) ∈ lw_all := lw_g (lw_at lw_m8 201 rfl) rfl
theorem q1942 : (Jvm.Cond.instanceMethod ({ cls := "ExchangeTextModel", name := "<init>", desc := "()V" } : Jvm.MethodName)) ∈ lw_all := lw_g (lw_at lw_m8 203 rfl) rfl
theorem q1943 : (Jvm.Cond.code ({ cls := "ExchangeTextModel", name := "<init>", desc := "()V" } : Jvm.MethodName) prog_9_method_1_code (1 : Nat) (Option.none : Option Jvm.ClassFile.FieldType)) ∈ lw_all := lw_g (lw_at lw_m8 204 rfl) rfl
theorem q1944 : (Jvm.Cond.methodLink "ExchangeTextModel" (1 : Nat) ({ cls := "java/lang/Object", name := "<init>", desc := "()V" } : Jvm.MethodName)) ∈ lw_all := lw_g (lw_at lw_m8 205 rfl) rfl
theorem q1945 : (Jvm.Cond.fieldLink "ExchangeTextModel" (69 : Nat) "ExchangeTextModel" "thrown" "I") ∈ lw_all := lw_g (lw_at lw_m8 206 rfl) rfl
theorem q1946 : (Jvm.Cond.fieldLink "ExchangeTextModel" (79 : Nat) "ExchangeTextModel" "size" "I") ∈ lw_all := lw_g (lw_at lw_m8 207 rfl) rfl
theorem q1947 : (Jvm.Cond.fieldLink "ExchangeTextModel" (7 : Nat) "ExchangeTextModel" "text" "[I") ∈ lw_all := lw_g (lw_at lw_m8 208 rfl) rfl
theorem q1948 : (Jvm.Cond.fieldLink "ExchangeTextModel" (13 : Nat) "ExchangeTextModel" "out" "[I") ∈ lw_all := lw_g (lw_at lw_m8 209 rfl) rfl
theorem q1949 : (Jvm.Cond.fieldLink "ExchangeTextModel" (16 : Nat) "ExchangeTextModel" "kinds" "[I") ∈ lw_all := lw_g (lw_at lw_m8 210 rfl) rfl
theorem q1950 : (Jvm.Cond.fieldLink "ExchangeTextModel" (19 : Nat) "ExchangeTextModel" "kindLetters" "[I") ∈ lw_all := lw_g (lw_at lw_m8 211 rfl) rfl
theorem q1951 : (Jvm.Cond.fieldLink "ExchangeTextModel" (22 : Nat) "ExchangeTextModel" "kindNames" "[I") ∈ lw_all := lw_g (lw_at lw_m8 212 rfl) rfl
theorem q1952 : (Jvm.Cond.fieldLink "ExchangeTextModel" (25 : Nat) "ExchangeTextModel" "kindParts" "[I") ∈ lw_all := lw_g (lw_at lw_m8 213 rfl) rfl
theorem q1953 : (Jvm.Cond.fieldLink "ExchangeTextModel" (28 : Nat) "ExchangeTextModel" "kindSorts" "[I") ∈ lw_all := lw_g (lw_at lw_m8 214 rfl) rfl
theorem q1954 : (Jvm.Cond.fieldLink "ExchangeTextModel" (31 : Nat) "ExchangeTextModel" "kindMay" "[Z") ∈ lw_all := lw_g (lw_at lw_m8 215 rfl) rfl
theorem q1955 : (Jvm.Cond.fieldLink "ExchangeTextModel" (35 : Nat) "ExchangeTextModel" "lines" "[I") ∈ lw_all := lw_g (lw_at lw_m8 216 rfl) rfl
theorem q1956 : (Jvm.Cond.fieldLink "ExchangeTextModel" (38 : Nat) "ExchangeTextModel" "numbers" "[I") ∈ lw_all := lw_g (lw_at lw_m8 217 rfl) rfl
theorem q1957 : (Jvm.Cond.fieldLink "ExchangeTextModel" (41 : Nat) "ExchangeTextModel" "letters" "[I") ∈ lw_all := lw_g (lw_at lw_m8 218 rfl) rfl
theorem q1958 : (Jvm.Cond.fieldLink "ExchangeTextModel" (44 : Nat) "ExchangeTextModel" "names" "[I") ∈ lw_all := lw_g (lw_at lw_m8 219 rfl) rfl
theorem q1959 : (Jvm.Cond.fieldLink "ExchangeTextModel" (47 : Nat) "ExchangeTextModel" "parts" "[I") ∈ lw_all := lw_g (lw_at lw_m8 220 rfl) rfl
theorem q1960 : (Jvm.Cond.fieldLink "ExchangeTextModel" (50 : Nat) "ExchangeTextModel" "sorts" "[I") ∈ lw_all := lw_g (lw_at lw_m8 221 rfl) rfl
theorem q1961 : (Jvm.Cond.fieldLink "ExchangeTextModel" (53 : Nat) "ExchangeTextModel" "values" "[I") ∈ lw_all := lw_g (lw_at lw_m8 222 rfl) rfl
theorem q1962 : (Jvm.Cond.fieldLink "ExchangeTextModel" (56 : Nat) "ExchangeTextModel" "items" "[I") ∈ lw_all := lw_g (lw_at lw_m8 223 rfl) rfl
theorem q1963 : (Jvm.Cond.fieldLink "ExchangeTextModel" (82 : Nat) "ExchangeTextModel" "at" "I") ∈ lw_all := lw_g (lw_at lw_m8 224 rfl) rfl
theorem q1964 : (Jvm.Cond.fieldLink "ExchangeTextModel" (85 : Nat) "ExchangeTextModel" "fault" "I") ∈ lw_all := lw_g (lw_at lw_m8 225 rfl) rfl
theorem q1965 : (Jvm.Cond.fieldLink "ExchangeTextModel" (96 : Nat) "ExchangeTextModel" "from" "I") ∈ lw_all := lw_g (lw_at lw_m8 226 rfl) rfl
theorem q1966 : (Jvm.Cond.fieldLink "ExchangeTextModel" (59 : Nat) "ExchangeTextModel" "depths" "[I") ∈ lw_all := lw_g (lw_at lw_m8 227 rfl) rfl
theorem q1967 : (Jvm.Cond.fieldLink "ExchangeTextModel" (62 : Nat) "ExchangeTextModel" "likes" "[I") ∈ lw_all := lw_g (lw_at lw_m8 228 rfl) rfl
theorem q1968 : (Jvm.Cond.fieldLink "ExchangeTextModel" (65 : Nat) "ExchangeTextModel" "ways" "[J") ∈ lw_all := lw_g (lw_at lw_m8 229 rfl) rfl
theorem q1969 : (Jvm.Cond.fieldLink "ExchangeTextModel" (159 : Nat) "ExchangeTextModel" "written" "I") ∈ lw_all := lw_g (lw_at lw_m8 230 rfl) rfl
theorem q1970 : (Jvm.Cond.lays "ExchangeTextModel" "ExchangeTextModel" "thrown" "I") ∈ lw_all := lw_g (lw_at lw_m8 231 rfl) rfl
theorem q1971 : (Jvm.Cond.soleField "ExchangeTextModel" "thrown") ∈ lw_all := lw_g (lw_at lw_m8 232 rfl) rfl
theorem q1972 : (Jvm.Cond.lays "ExchangeTextModel" "ExchangeTextModel" "size" "I") ∈ lw_all := lw_g (lw_at lw_m8 233 rfl) rfl
theorem q1973 : (Jvm.Cond.soleField "ExchangeTextModel" "size") ∈ lw_all := lw_g (lw_at lw_m8 234 rfl) rfl
theorem q1974 : (Jvm.Cond.laysFinal "ExchangeTextModel" "ExchangeTextModel" "text" "[I") ∈ lw_all := lw_g (lw_at lw_m8 235 rfl) rfl
theorem q1975 : (Jvm.Cond.soleField "ExchangeTextModel" "text") ∈ lw_all := lw_g (lw_at lw_m8 236 rfl) rfl
theorem q1976 : (Jvm.Cond.laysFinal "ExchangeTextModel" "ExchangeTextModel" "out" "[I") ∈ lw_all := lw_g (lw_at lw_m8 237 rfl) rfl
theorem q1977 : (Jvm.Cond.soleField "ExchangeTextModel" "out") ∈ lw_all := lw_g (lw_at lw_m8 238 rfl) rfl
theorem q1978 : (Jvm.Cond.laysFinal "ExchangeTextModel" "ExchangeTextModel" "kinds" "[I") ∈ lw_all := lw_g (lw_at lw_m8 239 rfl) rfl
theorem q1979 : (Jvm.Cond.soleField "ExchangeTextModel" "kinds") ∈ lw_all := lw_g (lw_at lw_m9 0 rfl) rfl
theorem q1980 : (Jvm.Cond.laysFinal "ExchangeTextModel" "ExchangeTextModel" "kindLetters" "[I") ∈ lw_all := lw_g (lw_at lw_m9 1 rfl) rfl
theorem q1981 : (Jvm.Cond.soleField "ExchangeTextModel" "kindLetters") ∈ lw_all := lw_g (lw_at lw_m9 2 rfl) rfl
theorem q1982 : (Jvm.Cond.laysFinal "ExchangeTextModel" "ExchangeTextModel" "kindNames" "[I") ∈ lw_all := lw_g (lw_at lw_m9 3 rfl) rfl
theorem q1983 : (Jvm.Cond.soleField "ExchangeTextModel" "kindNames") ∈ lw_all := lw_g (lw_at lw_m9 4 rfl) rfl
theorem q1984 : (Jvm.Cond.laysFinal "ExchangeTextModel" "ExchangeTextModel" "kindParts" "[I") ∈ lw_all := lw_g (lw_at lw_m9 5 rfl) rfl
theorem q1985 : (Jvm.Cond.soleField "ExchangeTextModel" "kindParts") ∈ lw_all := lw_g (lw_at lw_m9 6 rfl) rfl
theorem q1986 : (Jvm.Cond.laysFinal "ExchangeTextModel" "ExchangeTextModel" "kindSorts" "[I") ∈ lw_all := lw_g (lw_at lw_m9 7 rfl) rfl
theorem q1987 : (Jvm.Cond.soleField "ExchangeTextModel" "kindSorts") ∈ lw_all := lw_g (lw_at lw_m9 8 rfl) rfl
theorem q1988 : (Jvm.Cond.laysFinal "ExchangeTextModel" "ExchangeTextModel" "kindMay" "[Z") ∈ lw_all := lw_g (lw_at lw_m9 9 rfl) rfl
theorem q1989 : (Jvm.Cond.soleField "ExchangeTextModel" "kindMay") ∈ lw_all := lw_g (lw_at lw_m9 10 rfl) rfl
theorem q1990 : (Jvm.Cond.laysFinal "ExchangeTextModel" "ExchangeTextModel" "lines" "[I") ∈ lw_all := lw_g (lw_at lw_m9 11 rfl) rfl
theorem q1991 : (Jvm.Cond.soleField "ExchangeTextModel" "lines") ∈ lw_all := lw_g (lw_at lw_m9 12 rfl) rfl
theorem q1992 : (Jvm.Cond.laysFinal "ExchangeTextModel" "ExchangeTextModel" "numbers" "[I") ∈ lw_all := lw_g (lw_at lw_m9 13 rfl) rfl
theorem q1993 : (Jvm.Cond.soleField "ExchangeTextModel" "numbers") ∈ lw_all := lw_g (lw_at lw_m9 14 rfl) rfl
theorem q1994 : (Jvm.Cond.laysFinal "ExchangeTextModel" "ExchangeTextModel" "letters" "[I") ∈ lw_all := lw_g (lw_at lw_m9 15 rfl) rfl
theorem q1995 : (Jvm.Cond.soleField "ExchangeTextModel" "letters") ∈ lw_all := lw_g (lw_at lw_m9 16 rfl) rfl
theorem q1996 : (Jvm.Cond.laysFinal "ExchangeTextModel" "ExchangeTextModel" "names" "[I") ∈ lw_all := lw_g (lw_at lw_m9 17 rfl) rfl
theorem q1997 : (Jvm.Cond.soleField "ExchangeTextModel" "names") ∈ lw_all := lw_g (lw_at lw_m9 18 rfl) rfl
theorem q1998 : (Jvm.Cond.laysFinal "ExchangeTextModel" "ExchangeTextModel" "parts" "[I") ∈ lw_all := lw_g (lw_at lw_m9 19 rfl) rfl
theorem q1999 : (Jvm.Cond.soleField "ExchangeTextModel" "parts") ∈ lw_all := lw_g (lw_at lw_m9 20 rfl) rfl
theorem q2000 : (Jvm.Cond.laysFinal "ExchangeTextModel" "ExchangeTextModel" "sorts" "[I") ∈ lw_all := lw_g (lw_at lw_m9 21 rfl) rfl
theorem q2001 : (Jvm.Cond.soleField "ExchangeTextModel" "sorts") ∈ lw_all := lw_g (lw_at lw_m9 22 rfl) rfl
theorem q2002 : (Jvm.Cond.laysFinal "ExchangeTextModel" "ExchangeTextModel" "values" "[I") ∈ lw_all := lw_g (lw_at lw_m9 23 rfl) rfl
theorem q2003 : (Jvm.Cond.soleField "ExchangeTextModel" "values") ∈ lw_all := lw_g (lw_at lw_m9 24 rfl) rfl
theorem q2004 : (Jvm.Cond.laysFinal "ExchangeTextModel" "ExchangeTextModel" "items" "[I") ∈ lw_all := lw_g (lw_at lw_m9 25 rfl) rfl
theorem q2005 : (Jvm.Cond.soleField "ExchangeTextModel" "items") ∈ lw_all := lw_g (lw_at lw_m9 26 rfl) rfl
theorem q2006 : (Jvm.Cond.lays "ExchangeTextModel" "ExchangeTextModel" "at" "I") ∈ lw_all := lw_g (lw_at lw_m9 27 rfl) rfl
theorem q2007 : (Jvm.Cond.soleField "ExchangeTextModel" "at") ∈ lw_all := lw_g (lw_at lw_m9 28 rfl) rfl
theorem q2008 : (Jvm.Cond.lays "ExchangeTextModel" "ExchangeTextModel" "fault" "I") ∈ lw_all := lw_g (lw_at lw_m9 29 rfl) rfl
theorem q2009 : (Jvm.Cond.soleField "ExchangeTextModel" "fault") ∈ lw_all := lw_g (lw_at lw_m9 30 rfl) rfl
theorem q2010 : (Jvm.Cond.lays "ExchangeTextModel" "ExchangeTextModel" "from" "I") ∈ lw_all := lw_g (lw_at lw_m9 31 rfl) rfl
theorem q2011 : (Jvm.Cond.soleField "ExchangeTextModel" "from") ∈ lw_all := lw_g (lw_at lw_m9 32 rfl) rfl
theorem q2012 : (Jvm.Cond.laysFinal "ExchangeTextModel" "ExchangeTextModel" "depths" "[I") ∈ lw_all := lw_g (lw_at lw_m9 33 rfl) rfl
theorem q2013 : (Jvm.Cond.soleField "ExchangeTextModel" "depths") ∈ lw_all := lw_g (lw_at lw_m9 34 rfl) rfl
theorem q2014 : (Jvm.Cond.laysFinal "ExchangeTextModel" "ExchangeTextModel" "likes" "[I") ∈ lw_all := lw_g (lw_at lw_m9 35 rfl) rfl
theorem q2015 : (Jvm.Cond.soleField "ExchangeTextModel" "likes") ∈ lw_all := lw_g (lw_at lw_m9 36 rfl) rfl
theorem q2016 : (Jvm.Cond.laysFinal "ExchangeTextModel" "ExchangeTextModel" "ways" "[J") ∈ lw_all := lw_g (lw_at lw_m9 37 rfl) rfl
theorem q2017 : (Jvm.Cond.soleField "ExchangeTextModel" "ways") ∈ lw_all := lw_g (lw_at lw_m9 38 rfl) rfl
theorem q2018 : (Jvm.Cond.lays "ExchangeTextModel" "ExchangeTextModel" "written" "I") ∈ lw_all := lw_g (lw_at lw_m9 39 rfl) rfl
theorem q2019 : (Jvm.Cond.soleField "ExchangeTextModel" "written") ∈ lw_all := lw_g (lw_at lw_m9 40 rfl) rfl
theorem q2020 : (Jvm.Cond.superclass "ExchangeTextModel" "java/lang/Object") ∈ lw_all := lw_g (lw_at lw_m9 41 rfl) rfl
theorem q2023 : (Jvm.Cond.instanceMethod ({ cls := "ExchangeTextModel", name := "thrown", desc := "()I" } : Jvm.MethodName)) ∈ lw_all := lw_g (lw_at lw_m9 44 rfl) rfl
theorem q2024 : (Jvm.Cond.selects "ExchangeTextModel" ({ cls := "ExchangeTextModel", name := "thrown", desc := "()I" } : Jvm.MethodName) ({ cls := "ExchangeTextModel", name := "thrown", desc := "()I" } : Jvm.MethodName)) ∈ lw_all := lw_g (lw_at lw_m9 45 rfl) rfl
theorem q2025 : (Jvm.Cond.code ({ cls := "ExchangeTextModel", name := "thrown", desc := "()I" } : Jvm.MethodName) prog_9_method_2_code (1 : Nat) (Option.some Jvm.ClassFile.FieldType.int)) ∈ lw_all := lw_g (lw_at lw_m9 46 rfl) rfl
theorem q2027 : (Jvm.Cond.instanceMethod ({ cls := "ExchangeTextModel", name := "say", desc := "(J)I" } : Jvm.MethodName)) ∈ lw_all := lw_g (lw_at lw_m9 48 rfl) rfl
theorem q2028 : (Jvm.Cond.selects "ExchangeTextModel" ({ cls := "ExchangeTextModel", name := "say", desc := "(J)I" } : Jvm.MethodName) ({ cls := "ExchangeTextModel", name := "say", desc := "(J)I" } : Jvm.MethodName)) ∈ lw_all := lw_g (lw_at lw_m9 49 rfl) rfl
theorem q2029 : (Jvm.Cond.code ({ cls := "ExchangeTextModel", name := "say", desc := "(J)I" } : Jvm.MethodName) prog_9_method_4_code (7 : Nat) (Option.some Jvm.ClassFile.FieldType.int)) ∈ lw_all := lw_g (lw_at lw_m9 50 rfl) rfl
theorem q2030 : (Jvm.Cond.constantLong "ExchangeTextModel" (73 : Nat) (255 : Int64)) ∈ lw_all := lw_g (lw_at lw_m9 51 rfl) rfl
theorem q2031 : (Jvm.Cond.methodLink "ExchangeTextModel" (75 : Nat) ({ cls := "ExchangeTextModel", name := "fails", desc := "(ZI)Z" } : Jvm.MethodName)) ∈ lw_all := lw_g (lw_at lw_m9 52 rfl) rfl
theorem q2032 : (Jvm.Cond.privateMethod ({ cls := "ExchangeTextModel", name := "fails", desc := "(ZI)Z" } : Jvm.MethodName)) ∈ lw_tbl := lw_at lw_m9 53 rfl
theorem q2033 : (Jvm.Cond.instanceMethod ({ cls := "ExchangeTextModel", name := "fails", desc := "(ZI)Z" } : Jvm.MethodName)) ∈ lw_all := lw_g (lw_at lw_m9 54 rfl) rfl
theorem q2034 : (Jvm.Cond.code ({ cls := "ExchangeTextModel", name := "fails", desc := "(ZI)Z" } : Jvm.MethodName) prog_9_method_3_code (3 : Nat) (Option.some Jvm.ClassFile.FieldType.boolean)) ∈ lw_all := lw_g (lw_at lw_m9 55 rfl) rfl
theorem q2036 : (Jvm.Cond.instanceMethod ({ cls := "ExchangeTextModel", name := "trim", desc := "(I)I" } : Jvm.MethodName)) ∈ lw_all := lw_g (lw_at lw_m9 57 rfl) rfl
theorem q2037 : (Jvm.Cond.selects "ExchangeTextModel" ({ cls := "ExchangeTextModel", name := "trim", desc := "(I)I" } : Jvm.MethodName) ({ cls := "ExchangeTextModel", name := "trim", desc := "(I)I" } : Jvm.MethodName)) ∈ lw_all := lw_g (lw_at lw_m9 58 rfl) rfl
theorem q2038 : (Jvm.Cond.code ({ cls := "ExchangeTextModel", name := "trim", desc := "(I)I" } : Jvm.MethodName) prog_9_method_5_code (2 : Nat) (Option.some Jvm.ClassFile.FieldType.int)) ∈ lw_all := lw_g (lw_at lw_m9 59 rfl) rfl
theorem q2040 : (Jvm.Cond.instanceMethod ({ cls := "ExchangeTextModel", name := "charAt", desc := "(I)I" } : Jvm.MethodName)) ∈ lw_all := lw_g (lw_at lw_m9 61 rfl) rfl
theorem q2041 : (Jvm.Cond.selects "ExchangeTextModel" ({ cls := "ExchangeTextModel", name := "charAt", desc := "(I)I" } : Jvm.MethodName) ({ cls := "ExchangeTextModel", name := "charAt", desc := "(I)I" } : Jvm.MethodName)) ∈ lw_all := lw_g (lw_at lw_m9 62 rfl) rfl
theorem q2042 : (Jvm.Cond.code ({ cls := "ExchangeTextModel", name := "charAt", desc := "(I)I" } : Jvm.MethodName) prog_9_method_6_code (2 : Nat) (Option.some Jvm.ClassFile.FieldType.int)) ∈ lw_all := lw_g (lw_at lw_m9 63 rfl) rfl
theorem q2044 : (Jvm.Cond.instanceMethod ({ cls := "ExchangeTextModel", name := "schema", desc := "()I" } : Jvm.MethodName)) ∈ lw_all := lw_g (lw_at lw_m9 65 rfl) rfl
theorem q2045 : (Jvm.Cond.selects "ExchangeTextModel" ({ cls := "ExchangeTextModel", name := "schema", desc := "()I" } : Jvm.MethodName) ({ cls := "ExchangeTextModel", name := "schema", desc := "()I" } : Jvm.MethodName)) ∈ lw_all := lw_g (lw_at lw_m9 66 rfl) rfl
theorem q2046 : (Jvm.Cond.code ({ cls := "ExchangeTextModel", name := "schema", desc := "()I" } : Jvm.MethodName) prog_9_method_20_code (3 : Nat) (Option.some Jvm.ClassFile.FieldType.int)) ∈ lw_all := lw_g (lw_at lw_m9 67 rfl) rfl
theorem q2047 : (Jvm.Cond.methodLink "ExchangeTextModel" (88 : Nat) ({ cls := "ExchangeTextModel", name := "peek", desc := "()I" } : Jvm.MethodName)) ∈ lw_all := lw_g (lw_at lw_m9 68 rfl) rfl
theorem q2048 : (Jvm.Cond.privateMethod ({ cls := "ExchangeTextModel", name := "peek", desc := "()I" } : Jvm.MethodName)) ∈ lw_tbl := lw_at lw_m9 69 rfl
theorem q2049 : (Jvm.Cond.instanceMethod ({ cls := "ExchangeTextModel", name := "peek", desc := "()I" } : Jvm.MethodName)) ∈ lw_all := lw_g (lw_at lw_m9 70 rfl) rfl
theorem q2050 : (Jvm.Cond.code ({ cls := "ExchangeTextModel", name := "peek", desc := "()I" } : Jvm.MethodName) prog_9_method_7_code (1 : Nat) (Option.some Jvm.ClassFile.FieldType.int)) ∈ lw_all := lw_g (lw_at lw_m9 71 rfl) rfl
theorem q2051 : (Jvm.Cond.methodLink "ExchangeTextModel" (125 : Nat) ({ cls := "ExchangeTextModel", name := "kind", desc := "()V" } : Jvm.MethodName)) ∈ lw_all := lw_g (lw_at lw_m9 72 rfl) rfl
theorem q2052 : (Jvm.Cond.privateMethod ({ cls := "ExchangeTextModel", name := "kind", desc := "()V" } : Jvm.MethodName)) ∈ lw_tbl := lw_at lw_m9 73 rfl
theorem q2053 : (Jvm.Cond.instanceMethod ({ cls := "ExchangeTextModel", name := "kind", desc := "()V" } : Jvm.MethodName)) ∈ lw_all := lw_g (lw_at lw_m9 74 rfl) rfl
theorem q2054 : (Jvm.Cond.code ({ cls := "ExchangeTextModel", name := "kind", desc := "()V" } : Jvm.MethodName) prog_9_method_19_code (6 : Nat) (Option.none : Option Jvm.ClassFile.FieldType)) ∈ lw_all := lw_g (lw_at lw_m9 75 rfl) rfl
theorem q2055 : (Jvm.Cond.methodLink "ExchangeTextModel" (92 : Nat) ({ cls := "ExchangeTextModel", name := "wrongAt", desc := "(I)V" } : Jvm.MethodName)) ∈ lw_all := lw_g (lw_at lw_m9 76 rfl) rfl
theorem q2056 : (Jvm.Cond.privateMethod ({ cls := "ExchangeTextModel", name := "wrongAt", desc := "(I)V" } : Jvm.MethodName)) ∈ lw_tbl := lw_at lw_m9 77 rfl
theorem q2057 : (Jvm.Cond.instanceMethod ({ cls := "ExchangeTextModel", name := "wrongAt", desc := "(I)V" } : Jvm.MethodName)) ∈ lw_all := lw_g (lw_at lw_m9 78 rfl) rfl
theorem q2058 : (Jvm.Cond.code ({ cls := "ExchangeTextModel", name := "wrongAt", desc := "(I)V" } : Jvm.MethodName) prog_9_method_10_code (2 : Nat) (Option.none : Option Jvm.ClassFile.FieldType)) ∈ lw_all := lw_g (lw_at lw_m9 79 rfl) rfl
theorem q2059 : (Jvm.Cond.methodLink "ExchangeTextModel" (113 : Nat) ({ cls := "ExchangeTextModel", name := "name", desc := "([II)I" } : Jvm.MethodName)) ∈ lw_all := lw_g (lw_at lw_m9 80 rfl) rfl
theorem q2060 : (Jvm.Cond.privateMethod ({ cls := "ExchangeTextModel", name := "name", desc := "([II)I" } : Jvm.MethodName)) ∈ lw_tbl := lw_at lw_m9 81 rfl
theorem q2061 : (Jvm.Cond.instanceMethod ({ cls := "ExchangeTextModel", name := "name", desc := "([II)I" } : Jvm.MethodName)) ∈ lw_all := lw_g (lw_at lw_m9 82 rfl) rfl
theorem q2062 : (Jvm.Cond.code ({ cls := "ExchangeTextModel", name := "name", desc := "([II)I" } : Jvm.MethodName) prog_9_method_13_code (3 : Nat) (Option.some Jvm.ClassFile.FieldType.int)) ∈ lw_all := lw_g (lw_at lw_m9 83 rfl) rfl
theorem q2063 : (Jvm.Cond.methodLink "ExchangeTextModel" (103 : Nat) ({ cls := "ExchangeTextModel", name := "isLetter", desc := "(I)Z" } : Jvm.MethodName)) ∈ lw_all := lw_g (lw_at lw_m9 84 rfl) rfl
theorem q2064 : (Jvm.Cond.static ({ cls := "ExchangeTextModel", name := "isLetter", desc := "(I)Z" } : Jvm.MethodName)) ∈ lw_all := lw_g (lw_at lw_m9 85 rfl) rfl
theorem q2065 : (Jvm.Cond.code ({ cls := "ExchangeTextModel", name := "isLetter", desc := "(I)Z" } : Jvm.MethodName) prog_9_method_9_code (1 : Nat) (Option.some Jvm.ClassFile.FieldType.boolean)) ∈ lw_all := lw_g (lw_at lw_m9 86 rfl) rfl
theorem q2066 : (Jvm.Cond.methodLink "ExchangeTextModel" (117 : Nat) ({ cls := "ExchangeTextModel", name := "isSame", desc := "([II[III)Z" } : Jvm.MethodName)) ∈ lw_all := lw_g (lw_at lw_m9 87 rfl) rfl
theorem q2067 : (Jvm.Cond.static ({ cls := "ExchangeTextModel", name := "isSame", desc := "([II[III)Z" } : Jvm.MethodName)) ∈ lw_all := lw_g (lw_at lw_m9 88 rfl) rfl
theorem q2068 : (Jvm.Cond.code ({ cls := "ExchangeTextModel", name := "isSame", desc := "([II[III)Z" } : Jvm.MethodName) prog_9_method_18_code (7 : Nat) (Option.some Jvm.ClassFile.FieldType.boolean)) ∈ lw_all := lw_g (lw_at lw_m9 89 rfl) rfl
theorem q2069 : (Jvm.Cond.methodLink "ExchangeTextModel" (110 : Nat) ({ cls := "ExchangeTextModel", name := "sign", desc := "(I)V" } : Jvm.MethodName)) ∈ lw_all := lw_g (lw_at lw_m9 90 rfl) rfl
theorem q2070 : (Jvm.Cond.privateMethod ({ cls := "ExchangeTextModel", name := "sign", desc := "(I)V" } : Jvm.MethodName)) ∈ lw_tbl := lw_at lw_m9 91 rfl
theorem q2071 : (Jvm.Cond.instanceMethod ({ cls := "ExchangeTextModel", name := "sign", desc := "(I)V" } : Jvm.MethodName)) ∈ lw_all := lw_g (lw_at lw_m9 92 rfl) rfl
theorem q2072 : (Jvm.Cond.code ({ cls := "ExchangeTextModel", name := "sign", desc := "(I)V" } : Jvm.MethodName) prog_9_method_11_code (2 : Nat) (Option.none : Option Jvm.ClassFile.FieldType)) ∈ lw_all := lw_g (lw_at lw_m9 93 rfl) rfl
theorem q2073 : (Jvm.Cond.methodLink "ExchangeTextModel" (121 : Nat) ({ cls := "ExchangeTextModel", name := "sortOf", desc := "(I)I" } : Jvm.MethodName)) ∈ lw_all := lw_g (lw_at lw_m9 94 rfl) rfl
theorem q2074 : (Jvm.Cond.static ({ cls := "ExchangeTextModel", name := "sortOf", desc := "(I)I" } : Jvm.MethodName)) ∈ lw_all := lw_g (lw_at lw_m9 95 rfl) rfl
theorem q2075 : (Jvm.Cond.code ({ cls := "ExchangeTextModel", name := "sortOf", desc := "(I)I" } : Jvm.MethodName) prog_9_method_17_code (1 : Nat) (Option.some Jvm.ClassFile.FieldType.int)) ∈ lw_all := lw_g (lw_at lw_m9 96 rfl) rfl
theorem q2077 : (Jvm.Cond.instanceMethod ({ cls := "ExchangeTextModel", name := "read", desc := "()I" } : Jvm.MethodName)) ∈ lw_all := lw_g (lw_at lw_m9 98 rfl) rfl
theorem q2078 : (Jvm.Cond.selects "ExchangeTextModel" ({ cls := "ExchangeTextModel", name := "read", desc := "()I" } : Jvm.MethodName) ({ cls := "ExchangeTextModel", name := "read", desc := "()I" } : Jvm.MethodName)) ∈ lw_all := lw_g (lw_at lw_m9 99 rfl) rfl
theorem q2079 : (Jvm.Cond.code ({ cls := "ExchangeTextModel", name := "read", desc := "()I" } : Jvm.MethodName) prog_9_method_28_code (4 : Nat) (Option.some Jvm.ClassFile.FieldType.int)) ∈ lw_all := lw_g (lw_at lw_m9 100 rfl) rfl
theorem q2080 : (Jvm.Cond.methodLink "ExchangeTextModel" (149 : Nat) ({ cls := "ExchangeTextModel", name := "oneLine", desc := "()V" } : Jvm.MethodName)) ∈ lw_all := lw_g (lw_at lw_m9 101 rfl) rfl
theorem q2081 : (Jvm.Cond.privateMethod ({ cls := "ExchangeTextModel", name := "oneLine", desc := "()V" } : Jvm.MethodName)) ∈ lw_tbl := lw_at lw_m9 102 rfl
theorem q2082 : (Jvm.Cond.instanceMethod ({ cls := "ExchangeTextModel", name := "oneLine", desc := "()V" } : Jvm.MethodName)) ∈ lw_all := lw_g (lw_at lw_m9 103 rfl) rfl
theorem q2083 : (Jvm.Cond.code ({ cls := "ExchangeTextModel", name := "oneLine", desc := "()V" } : Jvm.MethodName) prog_9_method_25_code (5 : Nat) (Option.none : Option Jvm.ClassFile.FieldType)) ∈ lw_all := lw_g (lw_at lw_m9 104 rfl) rfl
theorem q2084 : (Jvm.Cond.methodLink "ExchangeTextModel" (106 : Nat) ({ cls := "ExchangeTextModel", name := "digits", desc := "(II)I" } : Jvm.MethodName)) ∈ lw_all := lw_g (lw_at lw_m9 105 rfl) rfl
theorem q2085 : (Jvm.Cond.privateMethod ({ cls := "ExchangeTextModel", name := "digits", desc := "(II)I" } : Jvm.MethodName)) ∈ lw_tbl := lw_at lw_m9 106 rfl
theorem q2086 : (Jvm.Cond.instanceMethod ({ cls := "ExchangeTextModel", name := "digits", desc := "(II)I" } : Jvm.MethodName)) ∈ lw_all := lw_g (lw_at lw_m9 107 rfl) rfl
theorem q2087 : (Jvm.Cond.code ({ cls := "ExchangeTextModel", name := "digits", desc := "(II)I" } : Jvm.MethodName) prog_9_method_12_code (4 : Nat) (Option.some Jvm.ClassFile.FieldType.int)) ∈ lw_all := lw_g (lw_at lw_m9 108 rfl) rfl
theorem q2088 : (Jvm.Cond.methodLink "ExchangeTextModel" (99 : Nat) ({ cls := "ExchangeTextModel", name := "isDigit", desc := "(I)Z" } : Jvm.MethodName)) ∈ lw_all := lw_g (lw_at lw_m9 109 rfl) rfl
theorem q2089 : (Jvm.Cond.static ({ cls := "ExchangeTextModel", name := "isDigit", desc := "(I)Z" } : Jvm.MethodName)) ∈ lw_all := lw_g (lw_at lw_m9 110 rfl) rfl
theorem q2090 : (Jvm.Cond.code ({ cls := "ExchangeTextModel", name := "isDigit", desc := "(I)Z" } : Jvm.MethodName) prog_9_method_8_code (1 : Nat) (Option.some Jvm.ClassFile.FieldType.boolean)) ∈ lw_all := lw_g (lw_at lw_m9 111 rfl) rfl
theorem q2091 : (Jvm.Cond.methodLink "ExchangeTextModel" (143 : Nat) ({ cls := "ExchangeTextModel", name := "find", desc := "(II)I" } : Jvm.MethodName)) ∈ lw_all := lw_g (lw_at lw_m9 112 rfl) rfl
theorem q2092 : (Jvm.Cond.privateMethod ({ cls := "ExchangeTextModel", name := "find", desc := "(II)I" } : Jvm.MethodName)) ∈ lw_tbl := lw_at lw_m9 113 rfl
theorem q2093 : (Jvm.Cond.instanceMethod ({ cls := "ExchangeTextModel", name := "find", desc := "(II)I" } : Jvm.MethodName)) ∈ lw_all := lw_g (lw_at lw_m9 114 rfl) rfl
theorem q2094 : (Jvm.Cond.code ({ cls := "ExchangeTextModel", name := "find", desc := "(II)I" } : Jvm.MethodName) prog_9_method_21_code (4 : Nat) (Option.some Jvm.ClassFile.FieldType.int)) ∈ lw_all := lw_g (lw_at lw_m9 115 rfl) rfl
theorem q2095 : (Jvm.Cond.methodLink "ExchangeTextModel" (146 : Nat) ({ cls := "ExchangeTextModel", name := "argument", desc := "(I)V" } : Jvm.MethodName)) ∈ lw_all := lw_g (lw_at lw_m9 116 rfl) rfl
theorem q2096 : (Jvm.Cond.privateMethod ({ cls := "ExchangeTextModel", name := "argument", desc := "(I)V" } : Jvm.MethodName)) ∈ lw_tbl := lw_at lw_m9 117 rfl
theorem q2097 : (Jvm.Cond.instanceMethod ({ cls := "ExchangeTextModel", name := "argument", desc := "(I)V" } : Jvm.MethodName)) ∈ lw_all := lw_g (lw_at lw_m9 118 rfl) rfl
theorem q2098 : (Jvm.Cond.code ({ cls := "ExchangeTextModel", name := "argument", desc := "(I)V" } : Jvm.MethodName) prog_9_method_24_code (3 : Nat) (Option.none : Option Jvm.ClassFile.FieldType)) ∈ lw_all := lw_g (lw_at lw_m9 119 rfl) rfl
theorem q2099 : (Jvm.Cond.methodLink "ExchangeTextModel" (128 : Nat) ({ cls := "ExchangeTextModel", name := "beginsNumber", desc := "(I)Z" } : Jvm.MethodName)) ∈ lw_all := lw_g (lw_at lw_m9 120 rfl) rfl
theorem q2100 : (Jvm.Cond.static ({ cls := "ExchangeTextModel", name := "beginsNumber", desc := "(I)Z" } : Jvm.MethodName)) ∈ lw_all := lw_g (lw_at lw_m9 121 rfl) rfl
theorem q2101 : (Jvm.Cond.code ({ cls := "ExchangeTextModel", name := "beginsNumber", desc := "(I)Z" } : Jvm.MethodName) prog_9_method_16_code (1 : Nat) (Option.some Jvm.ClassFile.FieldType.boolean)) ∈ lw_all := lw_g (lw_at lw_m9 122 rfl) rfl
theorem q2102 : (Jvm.Cond.methodLink "ExchangeTextModel" (134 : Nat) ({ cls := "ExchangeTextModel", name := "number", desc := "()I" } : Jvm.MethodName)) ∈ lw_all := lw_g (lw_at lw_m9 123 rfl) rfl
theorem q2103 : (Jvm.Cond.privateMethod ({ cls := "ExchangeTextModel", name := "number", desc := "()I" } : Jvm.MethodName)) ∈ lw_tbl := lw_at lw_m9 124 rfl
theorem q2104 : (Jvm.Cond.instanceMethod ({ cls := "ExchangeTextModel", name := "number", desc := "()I" } : Jvm.MethodName)) ∈ lw_all := lw_g (lw_at lw_m9 125 rfl) rfl
theorem q2105 : (Jvm.Cond.code ({ cls := "ExchangeTextModel", name := "number", desc := "()I" } : Jvm.MethodName) prog_9_method_14_code (4 : Nat) (Option.some Jvm.ClassFile.FieldType.int)) ∈ lw_all := lw_g (lw_at lw_m9 126 rfl) rfl
theorem q2106 : (Jvm.Cond.methodLink "ExchangeTextModel" (137 : Nat) ({ cls := "ExchangeTextModel", name := "writing", desc := "(I)V" } : Jvm.MethodName)) ∈ lw_all := lw_g (lw_at lw_m9 127 rfl) rfl
theorem q2107 : (Jvm.Cond.privateMethod ({ cls := "ExchangeTextModel", name := "writing", desc := "(I)V" } : Jvm.MethodName)) ∈ lw_tbl := lw_at lw_m9 128 rfl
theorem q2108 : (Jvm.Cond.instanceMethod ({ cls := "ExchangeTextModel", name := "writing", desc := "(I)V" } : Jvm.MethodName)) ∈ lw_all := lw_g (lw_at lw_m9 129 rfl) rfl
theorem q2109 : (Jvm.Cond.code ({ cls := "ExchangeTextModel", name := "writing", desc := "(I)V" } : Jvm.MethodName) prog_9_method_22_code (8 : Nat) (Option.none : Option Jvm.ClassFile.FieldType)) ∈ lw_all := lw_g (lw_at lw_m9 130 rfl) rfl
theorem q2110 : (Jvm.Cond.methodLink "ExchangeTextModel" (131 : Nat) ({ cls := "ExchangeTextModel", name := "reference", desc := "()I" } : Jvm.MethodName)) ∈ lw_all := lw_g (lw_at lw_m9 131 rfl) rfl
theorem q2111 : (Jvm.Cond.privateMethod ({ cls := "ExchangeTextModel", name := "reference", desc := "()I" } : Jvm.MethodName)) ∈ lw_tbl := lw_at lw_m9 132 rfl
theorem q2112 : (Jvm.Cond.instanceMethod ({ cls := "ExchangeTextModel", name := "reference", desc := "()I" } : Jvm.MethodName)) ∈ lw_all := lw_g (lw_at lw_m9 133 rfl) rfl
theorem q2113 : (Jvm.Cond.code ({ cls := "ExchangeTextModel", name := "reference", desc := "()I" } : Jvm.MethodName) prog_9_method_15_code (2 : Nat) (Option.some Jvm.ClassFile.FieldType.int)) ∈ lw_all := lw_g (lw_at lw_m9 134 rfl) rfl
theorem q2114 : (Jvm.Cond.methodLink "ExchangeTextModel" (140 : Nat) ({ cls := "ExchangeTextModel", name := "list", desc := "(I)V" } : Jvm.MethodName)) ∈ lw_all := lw_g (lw_at lw_m9 135 rfl) rfl
theorem q2115 : (Jvm.Cond.privateMethod ({ cls := "ExchangeTextModel", name := "list", desc := "(I)V" } : Jvm.MethodName)) ∈ lw_tbl := lw_at lw_m9 136 rfl
theorem q2116 : (Jvm.Cond.instanceMethod ({ cls := "ExchangeTextModel", name := "list", desc := "(I)V" } : Jvm.MethodName)) ∈ lw_all := lw_g (lw_at lw_m9 137 rfl) rfl
theorem q2117 : (Jvm.Cond.code ({ cls := "ExchangeTextModel", name := "list", desc := "(I)V" } : Jvm.MethodName) prog_9_method_23_code (6 : Nat) (Option.none : Option Jvm.ClassFile.FieldType)) ∈ lw_all := lw_g (lw_at lw_m9 138 rfl) rfl
theorem q2118 : (Jvm.Cond.methodLink "ExchangeTextModel" (152 : Nat) ({ cls := "ExchangeTextModel", name := "isMissing", desc := "(I)Z" } : Jvm.MethodName)) ∈ lw_all := lw_g (lw_at lw_m9 139 rfl) rfl
theorem q2119 : (Jvm.Cond.privateMethod ({ cls := "ExchangeTextModel", name := "isMissing", desc := "(I)Z" } : Jvm.MethodName)) ∈ lw_tbl := lw_at lw_m9 140 rfl
theorem q2120 : (Jvm.Cond.instanceMethod ({ cls := "ExchangeTextModel", name := "isMissing", desc := "(I)Z" } : Jvm.MethodName)) ∈ lw_all := lw_g (lw_at lw_m9 141 rfl) rfl
theorem q2121 : (Jvm.Cond.code ({ cls := "ExchangeTextModel", name := "isMissing", desc := "(I)Z" } : Jvm.MethodName) prog_9_method_26_code (5 : Nat) (Option.some Jvm.ClassFile.FieldType.boolean)) ∈ lw_all := lw_g (lw_at lw_m9 142 rfl) rfl
theorem q2122 : (Jvm.Cond.methodLink "ExchangeTextModel" (155 : Nat) ({ cls := "ExchangeTextModel", name := "copy", desc := "(II)V" } : Jvm.MethodName)) ∈ lw_all := lw_g (lw_at lw_m9 143 rfl) rfl
theorem q2123 : (Jvm.Cond.privateMethod ({ cls := "ExchangeTextModel", name := "copy", desc := "(II)V" } : Jvm.MethodName)) ∈ lw_tbl := lw_at lw_m9 144 rfl
theorem q2124 : (Jvm.Cond.instanceMethod ({ cls := "ExchangeTextModel", name := "copy", desc := "(II)V" } : Jvm.MethodName)) ∈ lw_all := lw_g (lw_at lw_m9 145 rfl) rfl
theorem q2125 : (Jvm.Cond.code ({ cls := "ExchangeTextModel", name := "copy", desc := "(II)V" } : Jvm.MethodName) prog_9_method_27_code (4 : Nat) (Option.none : Option Jvm.ClassFile.FieldType)) ∈ lw_all := lw_g (lw_at lw_m9 146 rfl) rfl
theorem q2127 : (Jvm.Cond.instanceMethod ({ cls := "ExchangeTextModel", name := "write", desc := "()I" } : Jvm.MethodName)) ∈ lw_all := lw_g (lw_at lw_m9 148 rfl) rfl
theorem q2128 : (Jvm.Cond.selects "ExchangeTextModel" ({ cls := "ExchangeTextModel", name := "write", desc := "()I" } : Jvm.MethodName) ({ cls := "ExchangeTextModel", name := "write", desc := "()I" } : Jvm.MethodName)) ∈ lw_all := lw_g (lw_at lw_m9 149 rfl) rfl
theorem q2129 : (Jvm.Cond.code ({ cls := "ExchangeTextModel", name := "write", desc := "()I" } : Jvm.MethodName) prog_9_method_32_code (3 : Nat) (Option.some Jvm.ClassFile.FieldType.int)) ∈ lw_all := lw_g (lw_at lw_m9 150 rfl) rfl
theorem q2130 : (Jvm.Cond.methodLink "ExchangeTextModel" (162 : Nat) ({ cls := "ExchangeTextModel", name := "put", desc := "(I)V" } : Jvm.MethodName)) ∈ lw_all := lw_g (lw_at lw_m9 151 rfl) rfl
theorem q2131 : (Jvm.Cond.privateMethod ({ cls := "ExchangeTextModel", name := "put", desc := "(I)V" } : Jvm.MethodName)) ∈ lw_tbl := lw_at lw_m9 152 rfl
theorem q2132 : (Jvm.Cond.instanceMethod ({ cls := "ExchangeTextModel", name := "put", desc := "(I)V" } : Jvm.MethodName)) ∈ lw_all := lw_g (lw_at lw_m9 153 rfl) rfl
theorem q2133 : (Jvm.Cond.code ({ cls := "ExchangeTextModel", name := "put", desc := "(I)V" } : Jvm.MethodName) prog_9_method_29_code (2 : Nat) (Option.none : Option Jvm.ClassFile.FieldType)) ∈ lw_all := lw_g (lw_at lw_m9 154 rfl) rfl
theorem q2134 : (Jvm.Cond.methodLink "ExchangeTextModel" (165 : Nat) ({ cls := "ExchangeTextModel", name := "putNumber", desc := "(I)V" } : Jvm.MethodName)) ∈ lw_all := lw_g (lw_at lw_m9 155 rfl) rfl
theorem q2135 : (Jvm.Cond.privateMethod ({ cls := "ExchangeTextModel", name := "putNumber", desc := "(I)V" } : Jvm.MethodName)) ∈ lw_tbl := lw_at lw_m9 156 rfl
theorem q2136 : (Jvm.Cond.instanceMethod ({ cls := "ExchangeTextModel", name := "putNumber", desc := "(I)V" } : Jvm.MethodName)) ∈ lw_all := lw_g (lw_at lw_m9 157 rfl) rfl
theorem q2137 : (Jvm.Cond.code ({ cls := "ExchangeTextModel", name := "putNumber", desc := "(I)V" } : Jvm.MethodName) prog_9_method_30_code (4 : Nat) (Option.none : Option Jvm.ClassFile.FieldType)) ∈ lw_all := lw_g (lw_at lw_m9 158 rfl) rfl
theorem q2138 : (Jvm.Cond.methodLink "ExchangeTextModel" (168 : Nat) ({ cls := "ExchangeTextModel", name := "putArgument", desc := "(I)V" } : Jvm.MethodName)) ∈ lw_all := lw_g (lw_at lw_m9 159 rfl) rfl
theorem q2139 : (Jvm.Cond.privateMethod ({ cls := "ExchangeTextModel", name := "putArgument", desc := "(I)V" } : Jvm.MethodName)) ∈ lw_tbl := lw_at lw_m9 160 rfl
theorem q2140 : (Jvm.Cond.instanceMethod ({ cls := "ExchangeTextModel", name := "putArgument", desc := "(I)V" } : Jvm.MethodName)) ∈ lw_all := lw_g (lw_at lw_m9 161 rfl) rfl
theorem q2141 : (Jvm.Cond.code ({ cls := "ExchangeTextModel", name := "putArgument", desc := "(I)V" } : Jvm.MethodName) prog_9_method_31_code (4 : Nat) (Option.none : Option Jvm.ClassFile.FieldType)) ∈ lw_all := lw_g (lw_at lw_m9 162 rfl) rfl
theorem q2143 : (Jvm.Cond.instanceMethod ({ cls := "ExchangeTextModel", name := "keep", desc := "()I" } : Jvm.MethodName)) ∈ lw_all := lw_g (lw_at lw_m9 164 rfl) rfl
theorem q2144 : (Jvm.Cond.selects "ExchangeTextModel" ({ cls := "ExchangeTextModel", name := "keep", desc := "()I" } : Jvm.MethodName) ({ cls := "ExchangeTextModel", name := "keep", desc := "()I" } : Jvm.MethodName)) ∈ lw_all := lw_g (lw_at lw_m9 165 rfl) rfl
theorem q2145 : (Jvm.Cond.code ({ cls := "ExchangeTextModel", name := "keep", desc := "()I" } : Jvm.MethodName) prog_9_method_33_code (2 : Nat) (Option.some Jvm.ClassFile.FieldType.int)) ∈ lw_all := lw_g (lw_at lw_m9 166 rfl) rfl
theorem q2147 : (Jvm.Cond.instanceMethod ({ cls := "ExchangeTextModel", name := "line", desc := "(I)I" } : Jvm.MethodName)) ∈ lw_all := lw_g (lw_at lw_m9 168 rfl) rfl
theorem q2148 : (Jvm.Cond.selects "ExchangeTextModel" ({ cls := "ExchangeTextModel", name := "line", desc := "(I)I" } : Jvm.MethodName) ({ cls := "ExchangeTextModel", name := "line", desc := "(I)I" } : Jvm.MethodName)) ∈ lw_all := lw_g (lw_at lw_m9 169 rfl) rfl
theorem q2149 : (Jvm.Cond.code ({ cls := "ExchangeTextModel", name := "line", desc := "(I)I" } : Jvm.MethodName) prog_9_method_34_code (2 : Nat) (Option.some Jvm.ClassFile.FieldType.int)) ∈ lw_all := lw_g (lw_at lw_m9 170 rfl) rfl
theorem q2151 : (Jvm.Cond.instanceMethod ({ cls := "ExchangeTextModel", name := "told", desc := "(II)I" } : Jvm.MethodName)) ∈ lw_all := lw_g (lw_at lw_m9 172 rfl) rfl
theorem q2152 : (Jvm.Cond.selects "ExchangeTextModel" ({ cls := "ExchangeTextModel", name := "told", desc := "(II)I" } : Jvm.MethodName) ({ cls := "ExchangeTextModel", name := "told", desc := "(II)I" } : Jvm.MethodName)) ∈ lw_all := lw_g (lw_at lw_m9 173 rfl) rfl
theorem q2153 : (Jvm.Cond.code ({ cls := "ExchangeTextModel", name := "told", desc := "(II)I" } : Jvm.MethodName) prog_9_method_41_code (4 : Nat) (Option.some Jvm.ClassFile.FieldType.int)) ∈ lw_all := lw_g (lw_at lw_m9 174 rfl) rfl
theorem q2154 : (Jvm.Cond.methodLink "ExchangeTextModel" (180 : Nat) ({ cls := "ExchangeTextModel", name := "findDepths", desc := "()V" } : Jvm.MethodName)) ∈ lw_all := lw_g (lw_at lw_m9 175 rfl) rfl
theorem q2155 : (Jvm.Cond.privateMethod ({ cls := "ExchangeTextModel", name := "findDepths", desc := "()V" } : Jvm.MethodName)) ∈ lw_tbl := lw_at lw_m9 176 rfl
theorem q2156 : (Jvm.Cond.instanceMethod ({ cls := "ExchangeTextModel", name := "findDepths", desc := "()V" } : Jvm.MethodName)) ∈ lw_all := lw_g (lw_at lw_m9 177 rfl) rfl
theorem q2157 : (Jvm.Cond.code ({ cls := "ExchangeTextModel", name := "findDepths", desc := "()V" } : Jvm.MethodName) prog_9_method_40_code (6 : Nat) (Option.none : Option Jvm.ClassFile.FieldType)) ∈ lw_all := lw_g (lw_at lw_m9 178 rfl) rfl
theorem q2158 : (Jvm.Cond.methodLink "ExchangeTextModel" (177 : Nat) ({ cls := "ExchangeTextModel", name := "findWays", desc := "()V" } : Jvm.MethodName)) ∈ lw_all := lw_g (lw_at lw_m9 179 rfl) rfl
theorem q2159 : (Jvm.Cond.privateMethod ({ cls := "ExchangeTextModel", name := "findWays", desc := "()V" } : Jvm.MethodName)) ∈ lw_tbl := lw_at lw_m9 180 rfl
theorem q2160 : (Jvm.Cond.instanceMethod ({ cls := "ExchangeTextModel", name := "findWays", desc := "()V" } : Jvm.MethodName)) ∈ lw_all := lw_g (lw_at lw_m9 181 rfl) rfl
theorem q2161 : (Jvm.Cond.code ({ cls := "ExchangeTextModel", name := "findWays", desc := "()V" } : Jvm.MethodName) prog_9_method_39_code (4 : Nat) (Option.none : Option Jvm.ClassFile.FieldType)) ∈ lw_all := lw_g (lw_at lw_m9 182 rfl) rfl
theorem q2162 : (Jvm.Cond.methodLink "ExchangeTextModel" (171 : Nat) ({ cls := "ExchangeTextModel", name := "references", desc := "(I)I" } : Jvm.MethodName)) ∈ lw_all := lw_g (lw_at lw_m9 183 rfl) rfl
theorem q2163 : (Jvm.Cond.privateMethod ({ cls := "ExchangeTextModel", name := "references", desc := "(I)I" } : Jvm.MethodName)) ∈ lw_tbl := lw_at lw_m9 184 rfl
theorem q2164 : (Jvm.Cond.instanceMethod ({ cls := "ExchangeTextModel", name := "references", desc := "(I)I" } : Jvm.MethodName)) ∈ lw_all := lw_g (lw_at lw_m9 185 rfl) rfl
theorem q2165 : (Jvm.Cond.code ({ cls := "ExchangeTextModel", name := "references", desc := "(I)I" } : Jvm.MethodName) prog_9_method_36_code (2 : Nat) (Option.some Jvm.ClassFile.FieldType.int)) ∈ lw_all := lw_g (lw_at lw_m9 186 rfl) rfl
theorem q2166 : (Jvm.Cond.methodLink "ExchangeTextModel" (174 : Nat) ({ cls := "ExchangeTextModel", name := "referred", desc := "(II)I" } : Jvm.MethodName)) ∈ lw_all := lw_g (lw_at lw_m9 187 rfl) rfl
theorem q2167 : (Jvm.Cond.privateMethod ({ cls := "ExchangeTextModel", name := "referred", desc := "(II)I" } : Jvm.MethodName)) ∈ lw_tbl := lw_at lw_m9 188 rfl
theorem q2168 : (Jvm.Cond.instanceMethod ({ cls := "ExchangeTextModel", name := "referred", desc := "(II)I" } : Jvm.MethodName)) ∈ lw_all := lw_g (lw_at lw_m9 189 rfl) rfl
theorem q2169 : (Jvm.Cond.code ({ cls := "ExchangeTextModel", name := "referred", desc := "(II)I" } : Jvm.MethodName) prog_9_method_37_code (3 : Nat) (Option.some Jvm.ClassFile.FieldType.int)) ∈ lw_all := lw_g (lw_at lw_m9 190 rfl) rfl
theorem q2170 : (Jvm.Cond.methodLink "ExchangeTextModel" (183 : Nat) ({ cls := "ExchangeTextModel", name := "kindOf", desc := "(I)I" } : Jvm.MethodName)) ∈ lw_all := lw_g (lw_at lw_m9 191 rfl) rfl
theorem q2171 : (Jvm.Cond.privateMethod ({ cls := "ExchangeTextModel", name := "kindOf", desc := "(I)I" } : Jvm.MethodName)) ∈ lw_tbl := lw_at lw_m9 192 rfl
theorem q2172 : (Jvm.Cond.instanceMethod ({ cls := "ExchangeTextModel", name := "kindOf", desc := "(I)I" } : Jvm.MethodName)) ∈ lw_all := lw_g (lw_at lw_m9 193 rfl) rfl
theorem q2173 : (Jvm.Cond.code ({ cls := "ExchangeTextModel", name := "kindOf", desc := "(I)I" } : Jvm.MethodName) prog_9_method_35_code (3 : Nat) (Option.some Jvm.ClassFile.FieldType.int)) ∈ lw_all := lw_g (lw_at lw_m9 194 rfl) rfl
theorem q2174 : (Jvm.Cond.methodLink "ExchangeTextModel" (186 : Nat) ({ cls := "ExchangeTextModel", name := "referencesOf", desc := "(I)I" } : Jvm.MethodName)) ∈ lw_all := lw_g (lw_at lw_m9 195 rfl) rfl
theorem q2175 : (Jvm.Cond.privateMethod ({ cls := "ExchangeTextModel", name := "referencesOf", desc := "(I)I" } : Jvm.MethodName)) ∈ lw_tbl := lw_at lw_m9 196 rfl
theorem q2176 : (Jvm.Cond.instanceMethod ({ cls := "ExchangeTextModel", name := "referencesOf", desc := "(I)I" } : Jvm.MethodName)) ∈ lw_all := lw_g (lw_at lw_m9 197 rfl) rfl
theorem q2177 : (Jvm.Cond.code ({ cls := "ExchangeTextModel", name := "referencesOf", desc := "(I)I" } : Jvm.MethodName) prog_9_method_38_code (4 : Nat) (Option.some Jvm.ClassFile.FieldType.int)) ∈ lw_all := lw_g (lw_at lw_m9 198 rfl) rfl
theorem q2179 : (Jvm.Cond.instanceMethod ({ cls := "ExchangeTextModel", name := "argument", desc := "(III)I" } : Jvm.MethodName)) ∈ lw_all := lw_g (lw_at lw_m9 200 rfl) rfl
theorem q2180 : (Jvm.Cond.selects "ExchangeTextModel" ({ cls := "ExchangeTextModel", name := "argument", desc := "(III)I" } : Jvm.MethodName) ({ cls := "ExchangeTextModel", name := "argument", desc := "(III)I" } : Jvm.MethodName)) ∈ lw_all := lw_g (lw_at lw_m9 201 rfl) rfl
theorem q2181 : (Jvm.Cond.code ({ cls := "ExchangeTextModel", name := "argument", desc := "(III)I" } : Jvm.MethodName) prog_9_method_43_code (5 : Nat) (Option.some Jvm.ClassFile.FieldType.int)) ∈ lw_all := lw_g (lw_at lw_m9 202 rfl) rfl
theorem q2182 : (Jvm.Cond.methodLink "ExchangeTextModel" (189 : Nat) ({ cls := "ExchangeTextModel", name := "argumentAt", desc := "(II)I" } : Jvm.MethodName)) ∈ lw_all := lw_g (lw_at lw_m9 203 rfl) rfl
theorem q2183 : (Jvm.Cond.privateMethod ({ cls := "ExchangeTextModel", name := "argumentAt", desc := "(II)I" } : Jvm.MethodName)) ∈ lw_tbl := lw_at lw_m9 204 rfl
theorem q2184 : (Jvm.Cond.instanceMethod ({ cls := "ExchangeTextModel", name := "argumentAt", desc := "(II)I" } : Jvm.MethodName)) ∈ lw_all := lw_g (lw_at lw_m9 205 rfl) rfl
theorem q2185 : (Jvm.Cond.code ({ cls := "ExchangeTextModel", name := "argumentAt", desc := "(II)I" } : Jvm.MethodName) prog_9_method_42_code (4 : Nat) (Option.some Jvm.ClassFile.FieldType.int)) ∈ lw_all := lw_g (lw_at lw_m9 206 rfl) rfl
theorem q2187 : (Jvm.Cond.instanceMethod ({ cls := "ExchangeTextModel", name := "item", desc := "(III)I" } : Jvm.MethodName)) ∈ lw_all := lw_g (lw_at lw_m9 208 rfl) rfl
theorem q2188 : (Jvm.Cond.selects "ExchangeTextModel" ({ cls := "ExchangeTextModel", name := "item", desc := "(III)I" } : Jvm.MethodName) ({ cls := "ExchangeTextModel", name := "item", desc := "(III)I" } : Jvm.MethodName)) ∈ lw_all := lw_g (lw_at lw_m9 209 rfl) rfl
theorem q2189 : (Jvm.Cond.code ({ cls := "ExchangeTextModel", name := "item", desc := "(III)I" } : Jvm.MethodName) prog_9_method_44_code (6 : Nat) (Option.some Jvm.ClassFile.FieldType.int)) ∈ lw_all := lw_g (lw_at lw_m9 210 rfl) rfl
theorem q2191 : (Jvm.Cond.instanceMethod ({ cls := "ExchangeTextModel", name := "set", desc := "(III)I" } : Jvm.MethodName)) ∈ lw_all := lw_g (lw_at lw_m9 212 rfl) rfl
theorem q2192 : (Jvm.Cond.selects "ExchangeTextModel" ({ cls := "ExchangeTextModel", name := "set", desc := "(III)I" } : Jvm.MethodName) ({ cls := "ExchangeTextModel", name := "set", desc := "(III)I" } : Jvm.MethodName)) ∈ lw_all := lw_g (lw_at lw_m9 213 rfl) rfl
theorem q2193 : (Jvm.Cond.code ({ cls := "ExchangeTextModel", name := "set", desc := "(III)I" } : Jvm.MethodName) prog_9_method_45_code (6 : Nat) (Option.some Jvm.ClassFile.FieldType.int)) ∈ lw_all := lw_g (lw_at lw_m9 214 rfl) rfl
theorem q2194 : (Jvm.Cond.constant "ExchangeTextModel" (192 : Nat) (-999999999 : Int32)) ∈ lw_all := lw_g (lw_at lw_m9 215 rfl) rfl
theorem q2195 : (Jvm.Cond.constant "ExchangeTextModel" (193 : Nat) (999999999 : Int32)) ∈ lw_all := lw_g (lw_at lw_m9 216 rfl) rfl
theorem q2197 : (Jvm.Cond.instanceMethod ({ cls := "ExchangeTextModel", name := "wrong", desc := "(II)I" } : Jvm.MethodName)) ∈ lw_all := lw_g (lw_at lw_m9 218 rfl) rfl
theorem q2198 : (Jvm.Cond.selects "ExchangeTextModel" ({ cls := "ExchangeTextModel", name := "wrong", desc := "(II)I" } : Jvm.MethodName) ({ cls := "ExchangeTextModel", name := "wrong", desc := "(II)I" } : Jvm.MethodName)) ∈ lw_all := lw_g (lw_at lw_m9 219 rfl) rfl
theorem q2199 : (Jvm.Cond.code ({ cls := "ExchangeTextModel", name := "wrong", desc := "(II)I" } : Jvm.MethodName) prog_9_method_47_code (8 : Nat) (Option.some Jvm.ClassFile.FieldType.int)) ∈ lw_all := lw_g (lw_at lw_m9 220 rfl) rfl
theorem q2200 : (Jvm.Cond.methodLink "ExchangeTextModel" (194 : Nat) ({ cls := "ExchangeTextModel", name := "firstWrong", desc := "(II)I" } : Jvm.MethodName)) ∈ lw_all := lw_g (lw_at lw_m9 221 rfl) rfl
theorem q2201 : (Jvm.Cond.privateMethod ({ cls := "ExchangeTextModel", name := "firstWrong", desc := "(II)I" } : Jvm.MethodName)) ∈ lw_tbl := lw_at lw_m9 222 rfl
theorem q2202 : (Jvm.Cond.instanceMethod ({ cls := "ExchangeTextModel", name := "firstWrong", desc := "(II)I" } : Jvm.MethodName)) ∈ lw_all := lw_g (lw_at lw_m9 223 rfl) rfl
theorem q2203 : (Jvm.Cond.code ({ cls := "ExchangeTextModel", name := "firstWrong", desc := "(II)I" } : Jvm.MethodName) prog_9_method_46_code (8 : Nat) (Option.some Jvm.ClassFile.FieldType.int)) ∈ lw_all := lw_g (lw_at lw_m9 224 rfl) rfl
theorem q2205 : (Jvm.Cond.instanceMethod ({ cls := "ExchangeTextModel", name := "from", desc := "(II)I" } : Jvm.MethodName)) ∈ lw_all := lw_g (lw_at lw_m9 226 rfl) rfl
theorem q2206 : (Jvm.Cond.selects "ExchangeTextModel" ({ cls := "ExchangeTextModel", name := "from", desc := "(II)I" } : Jvm.MethodName) ({ cls := "ExchangeTextModel", name := "from", desc := "(II)I" } : Jvm.MethodName)) ∈ lw_all := lw_g (lw_at lw_m9 227 rfl) rfl
theorem q2207 : (Jvm.Cond.code ({ cls := "ExchangeTextModel", name := "from", desc := "(II)I" } : Jvm.MethodName) prog_9_method_48_code (6 : Nat) (Option.some Jvm.ClassFile.FieldType.int)) ∈ lw_all := lw_g (lw_at lw_m9 228 rfl) rfl
theorem q2209 : (Jvm.Cond.instanceMethod ({ cls := "ExchangeTextModel", name := "ring", desc := "(I)I" } : Jvm.MethodName)) ∈ lw_all := lw_g (lw_at lw_m9 230 rfl) rfl
theorem q2210 : (Jvm.Cond.selects "ExchangeTextModel" ({ cls := "ExchangeTextModel", name := "ring", desc := "(I)I" } : Jvm.MethodName) ({ cls := "ExchangeTextModel", name := "ring", desc := "(I)I" } : Jvm.MethodName)) ∈ lw_all := lw_g (lw_at lw_m9 231 rfl) rfl
theorem q2211 : (Jvm.Cond.code ({ cls := "ExchangeTextModel", name := "ring", desc := "(I)I" } : Jvm.MethodName) prog_9_method_50_code (4 : Nat) (Option.some Jvm.ClassFile.FieldType.int)) ∈ lw_all := lw_g (lw_at lw_m9 232 rfl) rfl
theorem q2212 : (Jvm.Cond.methodLink "ExchangeTextModel" (197 : Nat) ({ cls := "ExchangeTextModel", name := "isOnRing", desc := "(I)Z" } : Jvm.MethodName)) ∈ lw_all := lw_g (lw_at lw_m9 233 rfl) rfl
theorem q2213 : (Jvm.Cond.privateMethod ({ cls := "ExchangeTextModel", name := "isOnRing", desc := "(I)Z" } : Jvm.MethodName)) ∈ lw_tbl := lw_at lw_m9 234 rfl
theorem q2214 : (Jvm.Cond.instanceMethod ({ cls := "ExchangeTextModel", name := "isOnRing", desc := "(I)Z" } : Jvm.MethodName)) ∈ lw_all := lw_g (lw_at lw_m9 235 rfl) rfl
theorem q2215 : (Jvm.Cond.code ({ cls := "ExchangeTextModel", name := "isOnRing", desc := "(I)Z" } : Jvm.MethodName) prog_9_method_49_code (7 : Nat) (Option.some Jvm.ClassFile.FieldType.boolean)) ∈ lw_all := lw_g (lw_at lw_m9 236 rfl) rfl
theorem q2217 : (Jvm.Cond.instanceMethod ({ cls := "ExchangeTextModel", name := "place", desc := "(II)J" } : Jvm.MethodName)) ∈ lw_all := lw_g (lw_at lw_m9 238 rfl) rfl
theorem q2218 : (Jvm.Cond.selects "ExchangeTextModel" ({ cls := "ExchangeTextModel", name := "place", desc := "(II)J" } : Jvm.MethodName) ({ cls := "ExchangeTextModel", name := "place", desc := "(II)J" } : Jvm.MethodName)) ∈ lw_all := lw_g (lw_at lw_m9 239 rfl) rfl
theorem q2219 : (Jvm.Cond.code ({ cls := "ExchangeTextModel", name := "place", desc := "(II)J" } : Jvm.MethodName) prog_9_method_52_code (8 : Nat) (Option.some Jvm.ClassFile.FieldType.long)) ∈ lw_all := lw_g (lw_at lw_m10 0 rfl) rfl
theorem q2220 : (Jvm.Cond.methodLink "ExchangeTextModel" (200 : Nat) ({ cls := "ExchangeTextModel", name := "isPlaced", desc := "(I)Z" } : Jvm.MethodName)) ∈ lw_all := lw_g (lw_at lw_m10 1 rfl) rfl
theorem q2221 : (Jvm.Cond.privateMethod ({ cls := "ExchangeTextModel", name := "isPlaced", desc := "(I)Z" } : Jvm.MethodName)) ∈ lw_tbl := lw_at lw_m10 2 rfl
theorem q2222 : (Jvm.Cond.instanceMethod ({ cls := "ExchangeTextModel", name := "isPlaced", desc := "(I)Z" } : Jvm.MethodName)) ∈ lw_all := lw_g (lw_at lw_m10 3 rfl) rfl
theorem q2223 : (Jvm.Cond.code ({ cls := "ExchangeTextModel", name := "isPlaced", desc := "(I)Z" } : Jvm.MethodName) prog_9_method_51_code (3 : Nat) (Option.some Jvm.ClassFile.FieldType.boolean)) ∈ lw_all := lw_g (lw_at lw_m10 4 rfl) rfl
theorem q2224 : (Jvm.Cond.constantLong "ExchangeTextModel" (203 : Nat) (1000000000000 : Int64)) ∈ lw_all := lw_g (lw_at lw_m10 5 rfl) rfl
theorem q2226 : (Jvm.Cond.instanceMethod ({ cls := "ExchangeTextModel", name := "alike", desc := "(II)Z" } : Jvm.MethodName)) ∈ lw_all := lw_g (lw_at lw_m10 7 rfl) rfl
theorem q2227 : (Jvm.Cond.selects "ExchangeTextModel" ({ cls := "ExchangeTextModel", name := "alike", desc := "(II)Z" } : Jvm.MethodName) ({ cls := "ExchangeTextModel", name := "alike", desc := "(II)Z" } : Jvm.MethodName)) ∈ lw_all := lw_g (lw_at lw_m10 8 rfl) rfl
theorem q2228 : (Jvm.Cond.code ({ cls := "ExchangeTextModel", name := "alike", desc := "(II)Z" } : Jvm.MethodName) prog_9_method_56_code (5 : Nat) (Option.some Jvm.ClassFile.FieldType.boolean)) ∈ lw_all := lw_g (lw_at lw_m10 9 rfl) rfl
theorem q2229 : (Jvm.Cond.methodLink "ExchangeTextModel" (212 : Nat) ({ cls := "ExchangeTextModel", name := "findLikes", desc := "()V" } : Jvm.MethodName)) ∈ lw_all := lw_g (lw_at lw_m10 10 rfl) rfl
theorem q2230 : (Jvm.Cond.privateMethod ({ cls := "ExchangeTextModel", name := "findLikes", desc := "()V" } : Jvm.MethodName)) ∈ lw_tbl := lw_at lw_m10 11 rfl
theorem q2231 : (Jvm.Cond.instanceMethod ({ cls := "ExchangeTextModel", name := "findLikes", desc := "()V" } : Jvm.MethodName)) ∈ lw_all := lw_g (lw_at lw_m10 12 rfl) rfl
theorem q2232 : (Jvm.Cond.code ({ cls := "ExchangeTextModel", name := "findLikes", desc := "()V" } : Jvm.MethodName) prog_9_method_55_code (4 : Nat) (Option.none : Option Jvm.ClassFile.FieldType)) ∈ lw_all := lw_g (lw_at lw_m10 13 rfl) rfl
theorem q2233 : (Jvm.Cond.methodLink "ExchangeTextModel" (209 : Nat) ({ cls := "ExchangeTextModel", name := "isLineAlike", desc := "(II)Z" } : Jvm.MethodName)) ∈ lw_all := lw_g (lw_at lw_m10 14 rfl) rfl
theorem q2234 : (Jvm.Cond.privateMethod ({ cls := "ExchangeTextModel", name := "isLineAlike", desc := "(II)Z" } : Jvm.MethodName)) ∈ lw_tbl := lw_at lw_m10 15 rfl
theorem q2235 : (Jvm.Cond.instanceMethod ({ cls := "ExchangeTextModel", name := "isLineAlike", desc := "(II)Z" } : Jvm.MethodName)) ∈ lw_all := lw_g (lw_at lw_m10 16 rfl) rfl
theorem q2236 : (Jvm.Cond.code ({ cls := "ExchangeTextModel", name := "isLineAlike", desc := "(II)Z" } : Jvm.MethodName) prog_9_method_54_code (5 : Nat) (Option.some Jvm.ClassFile.FieldType.boolean)) ∈ lw_all := lw_g (lw_at lw_m10 17 rfl) rfl
theorem q2237 : (Jvm.Cond.methodLink "ExchangeTextModel" (205 : Nat) ({ cls := "ExchangeTextModel", name := "isArgumentAlike", desc := "(II)Z" } : Jvm.MethodName)) ∈ lw_all := lw_g (lw_at lw_m10 18 rfl) rfl
theorem q2238 : (Jvm.Cond.privateMethod ({ cls := "ExchangeTextModel", name := "isArgumentAlike", desc := "(II)Z" } : Jvm.MethodName)) ∈ lw_tbl := lw_at lw_m10 19 rfl
theorem q2239 : (Jvm.Cond.instanceMethod ({ cls := "ExchangeTextModel", name := "isArgumentAlike", desc := "(II)Z" } : Jvm.MethodName)) ∈ lw_all := lw_g (lw_at lw_m10 20 rfl) rfl
theorem q2240 : (Jvm.Cond.code ({ cls := "ExchangeTextModel", name := "isArgumentAlike", desc := "(II)Z" } : Jvm.MethodName) prog_9_method_53_code (5 : Nat) (Option.some Jvm.ClassFile.FieldType.boolean)) ∈ lw_all := lw_g (lw_at lw_m10 21 rfl) rfl
theorem q2242 : (Jvm.Cond.instanceMethod ({ cls := "ExchangeTextModel", name := "join", desc := "()I" } : Jvm.MethodName)) ∈ lw_all := lw_g (lw_at lw_m10 23 rfl) rfl
theorem q2243 : (Jvm.Cond.selects "ExchangeTextModel" ({ cls := "ExchangeTextModel", name := "join", desc := "()I" } : Jvm.MethodName) ({ cls := "ExchangeTextModel", name := "join", desc := "()I" } : Jvm.MethodName)) ∈ lw_all := lw_g (lw_at lw_m10 24 rfl) rfl
theorem q2244 : (Jvm.Cond.code ({ cls := "ExchangeTextModel", name := "join", desc := "()I" } : Jvm.MethodName) prog_9_method_57_code (4 : Nat) (Option.some Jvm.ClassFile.FieldType.int)) ∈ lw_all := lw_g (lw_at lw_m10 25 rfl) rfl
theorem q2246 : (Jvm.Cond.instanceMethod ({ cls := "ExchangeTextModel", name := "differs", desc := "(II)I" } : Jvm.MethodName)) ∈ lw_all := lw_g (lw_at lw_m10 27 rfl) rfl
theorem q2247 : (Jvm.Cond.selects "ExchangeTextModel" ({ cls := "ExchangeTextModel", name := "differs", desc := "(II)I" } : Jvm.MethodName) ({ cls := "ExchangeTextModel", name := "differs", desc := "(II)I" } : Jvm.MethodName)) ∈ lw_all := lw_g (lw_at lw_m10 28 rfl) rfl
theorem q2248 : (Jvm.Cond.code ({ cls := "ExchangeTextModel", name := "differs", desc := "(II)I" } : Jvm.MethodName) prog_9_method_59_code (8 : Nat) (Option.some Jvm.ClassFile.FieldType.int)) ∈ lw_all := lw_g (lw_at lw_m10 29 rfl) rfl
theorem q2249 : (Jvm.Cond.methodLink "ExchangeTextModel" (215 : Nat) ({ cls := "ExchangeTextModel", name := "isLineSame", desc := "(II)Z" } : Jvm.MethodName)) ∈ lw_all := lw_g (lw_at lw_m10 30 rfl) rfl
theorem q2250 : (Jvm.Cond.privateMethod ({ cls := "ExchangeTextModel", name := "isLineSame", desc := "(II)Z" } : Jvm.MethodName)) ∈ lw_tbl := lw_at lw_m10 31 rfl
theorem q2251 : (Jvm.Cond.instanceMethod ({ cls := "ExchangeTextModel", name := "isLineSame", desc := "(II)Z" } : Jvm.MethodName)) ∈ lw_all := lw_g (lw_at lw_m10 32 rfl) rfl
theorem q2252 : (Jvm.Cond.code ({ cls := "ExchangeTextModel", name := "isLineSame", desc := "(II)Z" } : Jvm.MethodName) prog_9_method_58_code (8 : Nat) (Option.some Jvm.ClassFile.FieldType.boolean)) ∈ lw_all := lw_g (lw_at lw_m10 33 rfl) rfl
theorem q2254 : (Jvm.Cond.instanceMethod ({ cls := "ExchangeTextModel", name := "count", desc := "(I)I" } : Jvm.MethodName)) ∈ lw_all := lw_g (lw_at lw_m10 35 rfl) rfl
theorem q2255 : (Jvm.Cond.selects "ExchangeTextModel" ({ cls := "ExchangeTextModel", name := "count", desc := "(I)I" } : Jvm.MethodName) ({ cls := "ExchangeTextModel", name := "count", desc := "(I)I" } : Jvm.MethodName)) ∈ lw_all := lw_g (lw_at lw_m10 36 rfl) rfl
theorem q2256 : (Jvm.Cond.code ({ cls := "ExchangeTextModel", name := "count", desc := "(I)I" } : Jvm.MethodName) prog_9_method_60_code (2 : Nat) (Option.some Jvm.ClassFile.FieldType.int)) ∈ lw_all := lw_g (lw_at lw_m10 37 rfl) rfl
theorem q2290 : (Jvm.Cond.castable "ExchangeTextModel" "java/lang/Object") ∈ lw_tbl := lw_at lw_m10 71 rfl
theorem in_X2 : ∀ w ∈ wsX20, w ∈ lw_all := lw_in wsX20 [1970, 1972, 1974, 1976, 1978, 1980, 1982, 1984, 1986, 1988, 1990, 1992, 1994, 1996, 1998, 2000, 2002, 2004, 2006, 2008, 2010, 2012, 2014, 2016, 2018] (by decide +kernel) (by decide +kernel)
/-! java/lang/Throwable -/
def RJ9 : String := "java/lang/Throwable"
def TJ9 : u_T := fun k => match k with
  | 0 => ("java/lang/Throwable", "cause", "Ljava/lang/Throwable;", false)
  | 1 => ("java/lang/Throwable", "stackTrace", "[Ljava/lang/StackTraceElement;", false)
  | 2 => ("java/lang/Throwable", "suppressedExceptions", "Ljava/util/List;", false)
  | 3 => ("java/lang/Throwable", "detailMessage", "Ljava/lang/String;", false)
  | _ => ("java/lang/Throwable", "backtrace", "Ljava/lang/Object;", false)
def tyJ9 : Nat → FieldType := fun k => match k with
  | 0 => .object "java/lang/Throwable"
  | 1 => .array (.object "java/lang/StackTraceElement")
  | 2 => .object "java/util/List"
  | 3 => .object "java/lang/String"
  | _ => .object "java/lang/Object"
abbrev wsJ90 : List Cond := u_ws RJ9 TJ9 5
theorem nmJ9 : ∀ a, a < 5 → ∀ b, b < 5 → a ≠ b → (TJ9 a).2.1 ≠ (TJ9 b).2.1 := by decide +kernel
theorem tyJ9_ok : ∀ k, k < 5 → parseFieldDescriptor (TJ9 k).2.2.1 = some (tyJ9 k) := by decide +kernel
abbrev cJ9_init : ByteArray := prog_34_method_1_code
def yJ9_init : MethodName := ⟨RJ9, "<init>", "()V"⟩
abbrev cJ9_init_2 : ByteArray := prog_34_method_2_code
def yJ9_init_2 : MethodName := ⟨RJ9, "<init>", "(Ljava/lang/String;)V"⟩
theorem q71 : (Jvm.Cond.initialized "java/lang/Throwable") ∈ lw_all := lw_g (lw_at lw_m1 12 rfl) rfl
theorem q315 : (Jvm.Cond.declares ({ cls := "java/lang/Throwable", name := "<init>", desc := "()V" } : Jvm.MethodName)) ∈ lw_tbl := lw_at lw_m2 16 rfl
theorem q316 : (Jvm.Cond.declares ({ cls := "java/lang/Throwable", name := "<init>", desc := "(Ljava/lang/String;)V" } : Jvm.MethodName)) ∈ lw_tbl := lw_at lw_m2 17 rfl
theorem q320 : (Jvm.Cond.lays "java/lang/Throwable" "java/lang/Throwable" "cause" "Ljava/lang/Throwable;") ∈ lw_all := lw_g (lw_at lw_m2 21 rfl) rfl
theorem q322 : (Jvm.Cond.lays "java/lang/Throwable" "java/lang/Throwable" "stackTrace" "[Ljava/lang/StackTraceElement;") ∈ lw_all := lw_g (lw_at lw_m2 23 rfl) rfl
theorem q324 : (Jvm.Cond.lays "java/lang/Throwable" "java/lang/Throwable" "suppressedExceptions" "Ljava/util/List;") ∈ lw_all := lw_g (lw_at lw_m2 25 rfl) rfl
theorem q326 : (Jvm.Cond.lays "java/lang/Throwable" "java/lang/Throwable" "detailMessage" "Ljava/lang/String;") ∈ lw_all := lw_g (lw_at lw_m2 27 rfl) rfl
theorem q328 : (Jvm.Cond.lays "java/lang/Throwable" "java/lang/Throwable" "backtrace" "Ljava/lang/Object;") ∈ lw_all := lw_g (lw_at lw_m2 29 rfl) rfl
theorem q329 : (Jvm.Cond.fieldLink "java/lang/Throwable" (198 : Nat) "java/lang/Throwable" "backtrace" "Ljava/lang/Object;") ∈ lw_all := lw_g (lw_at lw_m2 30 rfl) rfl
theorem q330 : (Jvm.Cond.superclass "java/lang/Throwable" "java/lang/Object") ∈ lw_all := lw_g (lw_at lw_m2 31 rfl) rfl
theorem q331 : (Jvm.Cond.instanceMethod ({ cls := "java/lang/Throwable", name := "<init>", desc := "()V" } : Jvm.MethodName)) ∈ lw_all := lw_g (lw_at lw_m2 32 rfl) rfl
theorem q332 : (Jvm.Cond.code ({ cls := "java/lang/Throwable", name := "<init>", desc := "()V" } : Jvm.MethodName) prog_34_method_1_code (1 : Nat) (Option.none : Option Jvm.ClassFile.FieldType)) ∈ lw_all := lw_g (lw_at lw_m2 33 rfl) rfl
theorem q333 : (Jvm.Cond.methodLink "java/lang/Throwable" (1 : Nat) ({ cls := "java/lang/Object", name := "<init>", desc := "()V" } : Jvm.MethodName)) ∈ lw_all := lw_g (lw_at lw_m2 34 rfl) rfl
theorem q334 : (Jvm.Cond.fieldLink "java/lang/Throwable" (13 : Nat) "java/lang/Throwable" "UNASSIGNED_STACK" "[Ljava/lang/StackTraceElement;") ∈ lw_all := lw_g (lw_at lw_m2 35 rfl) rfl
theorem q335 : (Jvm.Cond.laysStatic "java/lang/Throwable" "UNASSIGNED_STACK" "[Ljava/lang/StackTraceElement;") ∈ lw_tbl := lw_at lw_m2 36 rfl
theorem q336 : (Jvm.Cond.fieldLink "java/lang/Throwable" (20 : Nat) "java/lang/Throwable" "SUPPRESSED_SENTINEL" "Ljava/util/List;") ∈ lw_all := lw_g (lw_at lw_m2 37 rfl) rfl
theorem q337 : (Jvm.Cond.laysStatic "java/lang/Throwable" "SUPPRESSED_SENTINEL" "Ljava/util/List;") ∈ lw_tbl := lw_at lw_m2 38 rfl
theorem q338 : (Jvm.Cond.methodLink "java/lang/Throwable" (27 : Nat) ({ cls := "java/lang/Throwable", name := "fillInStackTrace", desc := "()Ljava/lang/Throwable;" } : Jvm.MethodName)) ∈ lw_all := lw_g (lw_at lw_m2 39 rfl) rfl
theorem q339 : (Jvm.Cond.instanceMethod ({ cls := "java/lang/Throwable", name := "fillInStackTrace", desc := "()Ljava/lang/Throwable;" } : Jvm.MethodName)) ∈ lw_all := lw_g (lw_at lw_m2 40 rfl) rfl
theorem q340 : (Jvm.Cond.sameMethod "java/lang/Throwable" "java/lang/Throwable" "fillInStackTrace" "()Ljava/lang/Throwable;") ∈ lw_all := lw_g (lw_at lw_m2 41 rfl) rfl
theorem q343 : (Jvm.Cond.codeSync ({ cls := "java/lang/Throwable", name := "fillInStackTrace", desc := "()Ljava/lang/Throwable;" } : Jvm.MethodName) prog_34_method_18_code (1 : Nat) (Option.some (Jvm.ClassFile.FieldType.object "java/lang/Throwable"))) ∈ lw_all := lw_g (lw_at lw_m2 44 rfl) rfl
theorem q344 : (Jvm.Cond.methodLink "java/lang/Throwable" (202 : Nat) ({ cls := "java/lang/Throwable", name := "fillInStackTrace", desc := "(I)Ljava/lang/Throwable;" } : Jvm.MethodName)) ∈ lw_all := lw_g (lw_at lw_m2 45 rfl) rfl
theorem q345 : (Jvm.Cond.privateMethod ({ cls := "java/lang/Throwable", name := "fillInStackTrace", desc := "(I)Ljava/lang/Throwable;" } : Jvm.MethodName)) ∈ lw_tbl := lw_at lw_m2 46 rfl
theorem q346 : (Jvm.Cond.instanceMethod ({ cls := "java/lang/Throwable", name := "fillInStackTrace", desc := "(I)Ljava/lang/Throwable;" } : Jvm.MethodName)) ∈ lw_all := lw_g (lw_at lw_m2 47 rfl) rfl
theorem q347 : (Jvm.Cond.instantiable "java/lang/Throwable" (6 : Nat)) ∈ lw_all := lw_g (lw_at lw_m2 48 rfl) rfl
theorem q348 : (Jvm.Cond.native ({ cls := "java/lang/Throwable", name := "fillInStackTrace", desc := "(I)Ljava/lang/Throwable;" } : Jvm.MethodName)) ∈ lw_all := lw_g (lw_at lw_m2 49 rfl) rfl
theorem q357 : (Jvm.Cond.instanceMethod ({ cls := "java/lang/Throwable", name := "<init>", desc := "(Ljava/lang/String;)V" } : Jvm.MethodName)) ∈ lw_all := lw_g (lw_at lw_m2 58 rfl) rfl
theorem q358 : (Jvm.Cond.code ({ cls := "java/lang/Throwable", name := "<init>", desc := "(Ljava/lang/String;)V" } : Jvm.MethodName) prog_34_method_2_code (2 : Nat) (Option.none : Option Jvm.ClassFile.FieldType)) ∈ lw_all := lw_g (lw_at lw_m2 59 rfl) rfl
theorem q361 : (Jvm.Cond.fieldLink "java/lang/Throwable" (198 : Nat) "java/lang/Throwable" "backtrace" "Ljava/lang/Object;") ∈ lw_all := lw_g (lw_at lw_m2 62 rfl) rfl
theorem q362 : (Jvm.Cond.fieldLink "java/lang/Throwable" (31 : Nat) "java/lang/Throwable" "detailMessage" "Ljava/lang/String;") ∈ lw_all := lw_g (lw_at lw_m2 63 rfl) rfl
theorem q363 : (Jvm.Cond.fieldLink "java/lang/Throwable" (7 : Nat) "java/lang/Throwable" "cause" "Ljava/lang/Throwable;") ∈ lw_all := lw_g (lw_at lw_m2 64 rfl) rfl
theorem q364 : (Jvm.Cond.fieldLink "java/lang/Throwable" (17 : Nat) "java/lang/Throwable" "stackTrace" "[Ljava/lang/StackTraceElement;") ∈ lw_all := lw_g (lw_at lw_m2 65 rfl) rfl
theorem q365 : (Jvm.Cond.fieldLink "java/lang/Throwable" (24 : Nat) "java/lang/Throwable" "suppressedExceptions" "Ljava/util/List;") ∈ lw_all := lw_g (lw_at lw_m2 66 rfl) rfl
theorem q368 : (Jvm.Cond.soleField "java/lang/Throwable" "backtrace") ∈ lw_all := lw_g (lw_at lw_m2 69 rfl) rfl
theorem q369 : (Jvm.Cond.soleField "java/lang/Throwable" "detailMessage") ∈ lw_all := lw_g (lw_at lw_m2 70 rfl) rfl
theorem q370 : (Jvm.Cond.soleField "java/lang/Throwable" "cause") ∈ lw_all := lw_g (lw_at lw_m2 71 rfl) rfl
theorem q371 : (Jvm.Cond.soleField "java/lang/Throwable" "stackTrace") ∈ lw_all := lw_g (lw_at lw_m2 72 rfl) rfl
theorem q373 : (Jvm.Cond.soleField "java/lang/Throwable" "depth") ∈ lw_all := lw_g (lw_at lw_m2 74 rfl) rfl
theorem q374 : (Jvm.Cond.soleField "java/lang/Throwable" "suppressedExceptions") ∈ lw_all := lw_g (lw_at lw_m2 75 rfl) rfl
theorem q2260 : (Jvm.Cond.sameMethod "java/lang/Throwable" "java/lang/Throwable" "fillInStackTrace" "(I)Ljava/lang/Throwable;") ∈ lw_all := lw_g (lw_at lw_m10 41 rfl) rfl
theorem q2304 : (Jvm.Cond.castable "java/lang/Throwable" "java/lang/Object") ∈ lw_tbl := lw_at lw_m10 85 rfl
theorem in_J9 : ∀ w ∈ wsJ90, w ∈ lw_all := lw_in wsJ90 [320, 322, 324, 326, 328] (by decide +kernel) (by decide +kernel)
/-! java/lang/Exception -/
def RJ10 : String := "java/lang/Exception"
abbrev cJ10_init : ByteArray := prog_18_method_2_code
def yJ10_init : MethodName := ⟨RJ10, "<init>", "(Ljava/lang/String;)V"⟩
abbrev cJ10_init_2 : ByteArray := prog_18_method_1_code
def yJ10_init_2 : MethodName := ⟨RJ10, "<init>", "()V"⟩
theorem q72 : (Jvm.Cond.initialized "java/lang/Exception") ∈ lw_all := lw_g (lw_at lw_m1 13 rfl) rfl
theorem q313 : (Jvm.Cond.declares ({ cls := "java/lang/Exception", name := "<init>", desc := "()V" } : Jvm.MethodName)) ∈ lw_tbl := lw_at lw_m2 14 rfl
theorem q314 : (Jvm.Cond.declares ({ cls := "java/lang/Exception", name := "<init>", desc := "(Ljava/lang/String;)V" } : Jvm.MethodName)) ∈ lw_tbl := lw_at lw_m2 15 rfl
theorem q354 : (Jvm.Cond.instanceMethod ({ cls := "java/lang/Exception", name := "<init>", desc := "(Ljava/lang/String;)V" } : Jvm.MethodName)) ∈ lw_all := lw_g (lw_at lw_m2 55 rfl) rfl
theorem q355 : (Jvm.Cond.code ({ cls := "java/lang/Exception", name := "<init>", desc := "(Ljava/lang/String;)V" } : Jvm.MethodName) prog_18_method_2_code (2 : Nat) (Option.none : Option Jvm.ClassFile.FieldType)) ∈ lw_all := lw_g (lw_at lw_m2 56 rfl) rfl
theorem q356 : (Jvm.Cond.methodLink "java/lang/Exception" (7 : Nat) ({ cls := "java/lang/Throwable", name := "<init>", desc := "(Ljava/lang/String;)V" } : Jvm.MethodName)) ∈ lw_all := lw_g (lw_at lw_m2 57 rfl) rfl
theorem q1725 : (Jvm.Cond.instanceMethod ({ cls := "java/lang/Exception", name := "<init>", desc := "()V" } : Jvm.MethodName)) ∈ lw_all := lw_g (lw_at lw_m7 226 rfl) rfl
theorem q1726 : (Jvm.Cond.code ({ cls := "java/lang/Exception", name := "<init>", desc := "()V" } : Jvm.MethodName) prog_18_method_1_code (1 : Nat) (Option.none : Option Jvm.ClassFile.FieldType)) ∈ lw_all := lw_g (lw_at lw_m7 227 rfl) rfl
theorem q1727 : (Jvm.Cond.methodLink "java/lang/Exception" (1 : Nat) ({ cls := "java/lang/Throwable", name := "<init>", desc := "()V" } : Jvm.MethodName)) ∈ lw_all := lw_g (lw_at lw_m7 228 rfl) rfl
/-! java/lang/RuntimeException -/
def RJ11 : String := "java/lang/RuntimeException"
abbrev cJ11_init : ByteArray := prog_28_method_2_code
def yJ11_init : MethodName := ⟨RJ11, "<init>", "(Ljava/lang/String;)V"⟩
abbrev cJ11_init_2 : ByteArray := prog_28_method_1_code
def yJ11_init_2 : MethodName := ⟨RJ11, "<init>", "()V"⟩
theorem q73 : (Jvm.Cond.initialized "java/lang/RuntimeException") ∈ lw_all := lw_g (lw_at lw_m1 14 rfl) rfl
theorem q410 : (Jvm.Cond.declares ({ cls := "java/lang/RuntimeException", name := "<init>", desc := "()V" } : Jvm.MethodName)) ∈ lw_tbl := lw_at lw_m2 111 rfl
theorem q411 : (Jvm.Cond.declares ({ cls := "java/lang/RuntimeException", name := "<init>", desc := "(Ljava/lang/String;)V" } : Jvm.MethodName)) ∈ lw_tbl := lw_at lw_m2 112 rfl
theorem q592 : (Jvm.Cond.instanceMethod ({ cls := "java/lang/RuntimeException", name := "<init>", desc := "(Ljava/lang/String;)V" } : Jvm.MethodName)) ∈ lw_all := lw_g (lw_at lw_m3 53 rfl) rfl
theorem q593 : (Jvm.Cond.code ({ cls := "java/lang/RuntimeException", name := "<init>", desc := "(Ljava/lang/String;)V" } : Jvm.MethodName) prog_28_method_2_code (2 : Nat) (Option.none : Option Jvm.ClassFile.FieldType)) ∈ lw_all := lw_g (lw_at lw_m3 54 rfl) rfl
theorem q594 : (Jvm.Cond.methodLink "java/lang/RuntimeException" (7 : Nat) ({ cls := "java/lang/Exception", name := "<init>", desc := "(Ljava/lang/String;)V" } : Jvm.MethodName)) ∈ lw_all := lw_g (lw_at lw_m3 55 rfl) rfl
theorem q1722 : (Jvm.Cond.instanceMethod ({ cls := "java/lang/RuntimeException", name := "<init>", desc := "()V" } : Jvm.MethodName)) ∈ lw_all := lw_g (lw_at lw_m7 223 rfl) rfl
theorem q1723 : (Jvm.Cond.code ({ cls := "java/lang/RuntimeException", name := "<init>", desc := "()V" } : Jvm.MethodName) prog_28_method_1_code (1 : Nat) (Option.none : Option Jvm.ClassFile.FieldType)) ∈ lw_all := lw_g (lw_at lw_m7 224 rfl) rfl
theorem q1724 : (Jvm.Cond.methodLink "java/lang/RuntimeException" (1 : Nat) ({ cls := "java/lang/Exception", name := "<init>", desc := "()V" } : Jvm.MethodName)) ∈ lw_all := lw_g (lw_at lw_m7 225 rfl) rfl
/-! java/lang/IllegalArgumentException -/
def RJ12 : String := "java/lang/IllegalArgumentException"
def TJ12 : u_T := fun k => match k with
  | 0 => ("java/lang/Throwable", "cause", "Ljava/lang/Throwable;", false)
  | 1 => ("java/lang/Throwable", "stackTrace", "[Ljava/lang/StackTraceElement;", false)
  | 2 => ("java/lang/Throwable", "suppressedExceptions", "Ljava/util/List;", false)
  | 3 => ("java/lang/Throwable", "detailMessage", "Ljava/lang/String;", false)
  | 4 => ("java/lang/Throwable", "backtrace", "Ljava/lang/Object;", false)
  | _ => ("java/lang/Throwable", "depth", "I", false)
def tyJ12 : Nat → FieldType := fun k => match k with
  | 0 => .object "java/lang/Throwable"
  | 1 => .array (.object "java/lang/StackTraceElement")
  | 2 => .object "java/util/List"
  | 3 => .object "java/lang/String"
  | 4 => .object "java/lang/Object"
  | _ => .int
abbrev wsJ120 : List Cond := u_ws RJ12 TJ12 6
theorem nmJ12 : ∀ a, a < 6 → ∀ b, b < 6 → a ≠ b → (TJ12 a).2.1 ≠ (TJ12 b).2.1 := by decide +kernel
theorem tyJ12_ok : ∀ k, k < 6 → parseFieldDescriptor (TJ12 k).2.2.1 = some (tyJ12 k) := by decide +kernel
abbrev cJ12_init : ByteArray := prog_19_method_2_code
def yJ12_init : MethodName := ⟨RJ12, "<init>", "(Ljava/lang/String;)V"⟩
abbrev cJ12_init_2 : ByteArray := prog_19_method_1_code
def yJ12_init_2 : MethodName := ⟨RJ12, "<init>", "()V"⟩
theorem q74 : (Jvm.Cond.initialized "java/lang/IllegalArgumentException") ∈ lw_all := lw_g (lw_at lw_m1 15 rfl) rfl
theorem q341 : (Jvm.Cond.selects "java/lang/IllegalArgumentException" ({ cls := "java/lang/Throwable", name := "fillInStackTrace", desc := "()Ljava/lang/Throwable;" } : Jvm.MethodName) ({ cls := "java/lang/Throwable", name := "fillInStackTrace", desc := "()Ljava/lang/Throwable;" } : Jvm.MethodName)) ∈ lw_all := lw_g (lw_at lw_m2 42 rfl) rfl
theorem q408 : (Jvm.Cond.instantiable "java/lang/IllegalArgumentException" (6 : Nat)) ∈ lw_all := lw_g (lw_at lw_m2 109 rfl) rfl
theorem q409 : (Jvm.Cond.castable "java/lang/IllegalArgumentException" "java/lang/IllegalArgumentException") ∈ lw_tbl := lw_at lw_m2 110 rfl
theorem q412 : (Jvm.Cond.selects "java/lang/IllegalArgumentException" ({ cls := "java/lang/Throwable", name := "fillInStackTrace", desc := "(I)Ljava/lang/Throwable;" } : Jvm.MethodName) ({ cls := "java/lang/Throwable", name := "fillInStackTrace", desc := "(I)Ljava/lang/Throwable;" } : Jvm.MethodName)) ∈ lw_all := lw_g (lw_at lw_m2 113 rfl) rfl
theorem q413 : (Jvm.Cond.lays "java/lang/IllegalArgumentException" "java/lang/Throwable" "cause" "Ljava/lang/Throwable;") ∈ lw_all := lw_g (lw_at lw_m2 114 rfl) rfl
theorem q414 : (Jvm.Cond.lays "java/lang/IllegalArgumentException" "java/lang/Throwable" "stackTrace" "[Ljava/lang/StackTraceElement;") ∈ lw_all := lw_g (lw_at lw_m2 115 rfl) rfl
theorem q415 : (Jvm.Cond.lays "java/lang/IllegalArgumentException" "java/lang/Throwable" "suppressedExceptions" "Ljava/util/List;") ∈ lw_all := lw_g (lw_at lw_m2 116 rfl) rfl
theorem q416 : (Jvm.Cond.lays "java/lang/IllegalArgumentException" "java/lang/Throwable" "detailMessage" "Ljava/lang/String;") ∈ lw_all := lw_g (lw_at lw_m2 117 rfl) rfl
theorem q417 : (Jvm.Cond.lays "java/lang/IllegalArgumentException" "java/lang/Throwable" "backtrace" "Ljava/lang/Object;") ∈ lw_all := lw_g (lw_at lw_m2 118 rfl) rfl
theorem q589 : (Jvm.Cond.instanceMethod ({ cls := "java/lang/IllegalArgumentException", name := "<init>", desc := "(Ljava/lang/String;)V" } : Jvm.MethodName)) ∈ lw_all := lw_g (lw_at lw_m3 50 rfl) rfl
theorem q590 : (Jvm.Cond.code ({ cls := "java/lang/IllegalArgumentException", name := "<init>", desc := "(Ljava/lang/String;)V" } : Jvm.MethodName) prog_19_method_2_code (2 : Nat) (Option.none : Option Jvm.ClassFile.FieldType)) ∈ lw_all := lw_g (lw_at lw_m3 51 rfl) rfl
theorem q591 : (Jvm.Cond.methodLink "java/lang/IllegalArgumentException" (7 : Nat) ({ cls := "java/lang/RuntimeException", name := "<init>", desc := "(Ljava/lang/String;)V" } : Jvm.MethodName)) ∈ lw_all := lw_g (lw_at lw_m3 52 rfl) rfl
theorem q595 : (Jvm.Cond.lays "java/lang/IllegalArgumentException" "java/lang/Throwable" "depth" "I") ∈ lw_all := lw_g (lw_at lw_m3 56 rfl) rfl
theorem q596 : (Jvm.Cond.superclass "java/lang/IllegalArgumentException" "java/lang/RuntimeException") ∈ lw_all := lw_g (lw_at lw_m3 57 rfl) rfl
theorem q869 : (Jvm.Cond.selects "java/lang/IllegalArgumentException" ({ cls := "java/lang/Object", name := "getClass", desc := "()Ljava/lang/Class;" } : Jvm.MethodName) ({ cls := "java/lang/Object", name := "getClass", desc := "()Ljava/lang/Class;" } : Jvm.MethodName)) ∈ lw_all := lw_g (lw_at lw_m4 90 rfl) rfl
theorem q1719 : (Jvm.Cond.instanceMethod ({ cls := "java/lang/IllegalArgumentException", name := "<init>", desc := "()V" } : Jvm.MethodName)) ∈ lw_all := lw_g (lw_at lw_m7 220 rfl) rfl
theorem q1720 : (Jvm.Cond.code ({ cls := "java/lang/IllegalArgumentException", name := "<init>", desc := "()V" } : Jvm.MethodName) prog_19_method_1_code (1 : Nat) (Option.none : Option Jvm.ClassFile.FieldType)) ∈ lw_all := lw_g (lw_at lw_m7 221 rfl) rfl
theorem q1721 : (Jvm.Cond.methodLink "java/lang/IllegalArgumentException" (1 : Nat) ({ cls := "java/lang/RuntimeException", name := "<init>", desc := "()V" } : Jvm.MethodName)) ∈ lw_all := lw_g (lw_at lw_m7 222 rfl) rfl
theorem q2291 : (Jvm.Cond.castable "java/lang/IllegalArgumentException" "java/lang/Object") ∈ lw_tbl := lw_at lw_m10 72 rfl
theorem in_J12 : ∀ w ∈ wsJ120, w ∈ lw_all := lw_in wsJ120 [413, 414, 415, 416, 417, 595] (by decide +kernel) (by decide +kernel)
/-! java/lang/IllegalStateException -/
def RJ13 : String := "java/lang/IllegalStateException"
def TJ13 : u_T := fun k => match k with
  | 0 => ("java/lang/Throwable", "cause", "Ljava/lang/Throwable;", false)
  | 1 => ("java/lang/Throwable", "stackTrace", "[Ljava/lang/StackTraceElement;", false)
  | 2 => ("java/lang/Throwable", "suppressedExceptions", "Ljava/util/List;", false)
  | 3 => ("java/lang/Throwable", "detailMessage", "Ljava/lang/String;", false)
  | 4 => ("java/lang/Throwable", "backtrace", "Ljava/lang/Object;", false)
  | _ => ("java/lang/Throwable", "depth", "I", false)
def tyJ13 : Nat → FieldType := fun k => match k with
  | 0 => .object "java/lang/Throwable"
  | 1 => .array (.object "java/lang/StackTraceElement")
  | 2 => .object "java/util/List"
  | 3 => .object "java/lang/String"
  | 4 => .object "java/lang/Object"
  | _ => .int
abbrev wsJ130 : List Cond := u_ws RJ13 TJ13 6
theorem nmJ13 : ∀ a, a < 6 → ∀ b, b < 6 → a ≠ b → (TJ13 a).2.1 ≠ (TJ13 b).2.1 := by decide +kernel
theorem tyJ13_ok : ∀ k, k < 6 → parseFieldDescriptor (TJ13 k).2.2.1 = some (tyJ13 k) := by decide +kernel
abbrev cJ13_init : ByteArray := prog_20_method_1_code
def yJ13_init : MethodName := ⟨RJ13, "<init>", "()V"⟩
theorem q75 : (Jvm.Cond.initialized "java/lang/IllegalStateException") ∈ lw_all := lw_g (lw_at lw_m1 16 rfl) rfl
theorem q342 : (Jvm.Cond.selects "java/lang/IllegalStateException" ({ cls := "java/lang/Throwable", name := "fillInStackTrace", desc := "()Ljava/lang/Throwable;" } : Jvm.MethodName) ({ cls := "java/lang/Throwable", name := "fillInStackTrace", desc := "()Ljava/lang/Throwable;" } : Jvm.MethodName)) ∈ lw_all := lw_g (lw_at lw_m2 43 rfl) rfl
theorem q870 : (Jvm.Cond.selects "java/lang/IllegalStateException" ({ cls := "java/lang/Object", name := "getClass", desc := "()Ljava/lang/Class;" } : Jvm.MethodName) ({ cls := "java/lang/Object", name := "getClass", desc := "()Ljava/lang/Class;" } : Jvm.MethodName)) ∈ lw_all := lw_g (lw_at lw_m4 91 rfl) rfl
theorem q1729 : (Jvm.Cond.instantiable "java/lang/IllegalStateException" (6 : Nat)) ∈ lw_all := lw_g (lw_at lw_m7 230 rfl) rfl
theorem q1730 : (Jvm.Cond.castable "java/lang/IllegalStateException" "java/lang/IllegalStateException") ∈ lw_tbl := lw_at lw_m7 231 rfl
theorem q1731 : (Jvm.Cond.selects "java/lang/IllegalStateException" ({ cls := "java/lang/Throwable", name := "fillInStackTrace", desc := "(I)Ljava/lang/Throwable;" } : Jvm.MethodName) ({ cls := "java/lang/Throwable", name := "fillInStackTrace", desc := "(I)Ljava/lang/Throwable;" } : Jvm.MethodName)) ∈ lw_all := lw_g (lw_at lw_m7 232 rfl) rfl
theorem q1732 : (Jvm.Cond.lays "java/lang/IllegalStateException" "java/lang/Throwable" "cause" "Ljava/lang/Throwable;") ∈ lw_all := lw_g (lw_at lw_m7 233 rfl) rfl
theorem q1733 : (Jvm.Cond.lays "java/lang/IllegalStateException" "java/lang/Throwable" "stackTrace" "[Ljava/lang/StackTraceElement;") ∈ lw_all := lw_g (lw_at lw_m7 234 rfl) rfl
theorem q1734 : (Jvm.Cond.lays "java/lang/IllegalStateException" "java/lang/Throwable" "suppressedExceptions" "Ljava/util/List;") ∈ lw_all := lw_g (lw_at lw_m7 235 rfl) rfl
theorem q1735 : (Jvm.Cond.lays "java/lang/IllegalStateException" "java/lang/Throwable" "detailMessage" "Ljava/lang/String;") ∈ lw_all := lw_g (lw_at lw_m7 236 rfl) rfl
theorem q1736 : (Jvm.Cond.lays "java/lang/IllegalStateException" "java/lang/Throwable" "backtrace" "Ljava/lang/Object;") ∈ lw_all := lw_g (lw_at lw_m7 237 rfl) rfl
theorem q1738 : (Jvm.Cond.instanceMethod ({ cls := "java/lang/IllegalStateException", name := "<init>", desc := "()V" } : Jvm.MethodName)) ∈ lw_all := lw_g (lw_at lw_m7 239 rfl) rfl
theorem q1739 : (Jvm.Cond.code ({ cls := "java/lang/IllegalStateException", name := "<init>", desc := "()V" } : Jvm.MethodName) prog_20_method_1_code (1 : Nat) (Option.none : Option Jvm.ClassFile.FieldType)) ∈ lw_all := lw_g (lw_at lw_m8 0 rfl) rfl
theorem q1740 : (Jvm.Cond.methodLink "java/lang/IllegalStateException" (1 : Nat) ({ cls := "java/lang/RuntimeException", name := "<init>", desc := "()V" } : Jvm.MethodName)) ∈ lw_all := lw_g (lw_at lw_m8 1 rfl) rfl
theorem q1741 : (Jvm.Cond.lays "java/lang/IllegalStateException" "java/lang/Throwable" "depth" "I") ∈ lw_all := lw_g (lw_at lw_m8 2 rfl) rfl
theorem q1742 : (Jvm.Cond.superclass "java/lang/IllegalStateException" "java/lang/RuntimeException") ∈ lw_all := lw_g (lw_at lw_m8 3 rfl) rfl
theorem q2292 : (Jvm.Cond.castable "java/lang/IllegalStateException" "java/lang/Object") ∈ lw_tbl := lw_at lw_m10 73 rfl
theorem in_J13 : ∀ w ∈ wsJ130, w ∈ lw_all := lw_in wsJ130 [1732, 1733, 1734, 1735, 1736, 1741] (by decide +kernel) (by decide +kernel)
/-! jdk/internal/util/ArraysSupport -/
def RJ14 : String := "jdk/internal/util/ArraysSupport"
abbrev cJ14_newLength : ByteArray := prog_65_method_27_code
def yJ14_newLength : MethodName := ⟨RJ14, "newLength", "(III)I"⟩
abbrev cJ14_hugeLength : ByteArray := prog_65_method_28_code
def yJ14_hugeLength : MethodName := ⟨RJ14, "hugeLength", "(II)I"⟩
abbrev cJ14_mismatch : ByteArray := prog_65_method_13_code
def yJ14_mismatch : MethodName := ⟨RJ14, "mismatch", "([B[BI)I"⟩
abbrev cJ14_vectorizedMismatch : ByteArray := prog_65_method_3_code
def yJ14_vectorizedMismatch : MethodName := ⟨RJ14, "vectorizedMismatch", "(Ljava/lang/Object;JLjava/lang/Object;JII)I"⟩
theorem q76 : (Jvm.Cond.initialized "jdk/internal/util/ArraysSupport") ∈ lw_all := lw_g (lw_at lw_m1 17 rfl) rfl
theorem q439 : (Jvm.Cond.static ({ cls := "jdk/internal/util/ArraysSupport", name := "newLength", desc := "(III)I" } : Jvm.MethodName)) ∈ lw_all := lw_g (lw_at lw_m2 140 rfl) rfl
theorem q440 : (Jvm.Cond.code ({ cls := "jdk/internal/util/ArraysSupport", name := "newLength", desc := "(III)I" } : Jvm.MethodName) prog_65_method_27_code (4 : Nat) (Option.some Jvm.ClassFile.FieldType.int)) ∈ lw_all := lw_g (lw_at lw_m2 141 rfl) rfl
theorem q441 : (Jvm.Cond.methodLink "jdk/internal/util/ArraysSupport" (194 : Nat) ({ cls := "java/lang/Math", name := "max", desc := "(II)I" } : Jvm.MethodName)) ∈ lw_all := lw_g (lw_at lw_m2 142 rfl) rfl
theorem q444 : (Jvm.Cond.constant "jdk/internal/util/ArraysSupport" (200 : Nat) (2147483639 : Int32)) ∈ lw_all := lw_g (lw_at lw_m2 145 rfl) rfl
theorem q445 : (Jvm.Cond.methodLink "jdk/internal/util/ArraysSupport" (201 : Nat) ({ cls := "jdk/internal/util/ArraysSupport", name := "hugeLength", desc := "(II)I" } : Jvm.MethodName)) ∈ lw_all := lw_g (lw_at lw_m2 146 rfl) rfl
theorem q446 : (Jvm.Cond.static ({ cls := "jdk/internal/util/ArraysSupport", name := "hugeLength", desc := "(II)I" } : Jvm.MethodName)) ∈ lw_all := lw_g (lw_at lw_m2 147 rfl) rfl
theorem q447 : (Jvm.Cond.code ({ cls := "jdk/internal/util/ArraysSupport", name := "hugeLength", desc := "(II)I" } : Jvm.MethodName) prog_65_method_28_code (3 : Nat) (Option.some Jvm.ClassFile.FieldType.int)) ∈ lw_all := lw_g (lw_at lw_m2 148 rfl) rfl
theorem q1027 : (Jvm.Cond.static ({ cls := "jdk/internal/util/ArraysSupport", name := "mismatch", desc := "([B[BI)I" } : Jvm.MethodName)) ∈ lw_all := lw_g (lw_at lw_m5 8 rfl) rfl
theorem q1028 : (Jvm.Cond.code ({ cls := "jdk/internal/util/ArraysSupport", name := "mismatch", desc := "([B[BI)I" } : Jvm.MethodName) prog_65_method_13_code (4 : Nat) (Option.some Jvm.ClassFile.FieldType.int)) ∈ lw_all := lw_g (lw_at lw_m5 9 rfl) rfl
theorem q1029 : (Jvm.Cond.fieldLink "jdk/internal/util/ArraysSupport" (126 : Nat) "jdk/internal/misc/Unsafe" "ARRAY_BYTE_BASE_OFFSET" "I") ∈ lw_all := lw_g (lw_at lw_m5 10 rfl) rfl
theorem q1031 : (Jvm.Cond.fieldLink "jdk/internal/util/ArraysSupport" (129 : Nat) "jdk/internal/util/ArraysSupport" "LOG2_ARRAY_BYTE_INDEX_SCALE" "I") ∈ lw_all := lw_g (lw_at lw_m5 12 rfl) rfl
theorem q1032 : (Jvm.Cond.laysStatic "jdk/internal/util/ArraysSupport" "LOG2_ARRAY_BYTE_INDEX_SCALE" "I") ∈ lw_tbl := lw_at lw_m5 13 rfl
theorem q1033 : (Jvm.Cond.methodLink "jdk/internal/util/ArraysSupport" (122 : Nat) ({ cls := "jdk/internal/util/ArraysSupport", name := "vectorizedMismatch", desc := "(Ljava/lang/Object;JLjava/lang/Object;JII)I" } : Jvm.MethodName)) ∈ lw_all := lw_g (lw_at lw_m5 14 rfl) rfl
theorem q1034 : (Jvm.Cond.static ({ cls := "jdk/internal/util/ArraysSupport", name := "vectorizedMismatch", desc := "(Ljava/lang/Object;JLjava/lang/Object;JII)I" } : Jvm.MethodName)) ∈ lw_all := lw_g (lw_at lw_m5 15 rfl) rfl
theorem q1035 : (Jvm.Cond.code ({ cls := "jdk/internal/util/ArraysSupport", name := "vectorizedMismatch", desc := "(Ljava/lang/Object;JLjava/lang/Object;JII)I" } : Jvm.MethodName) prog_65_method_3_code (19 : Nat) (Option.some Jvm.ClassFile.FieldType.int)) ∈ lw_all := lw_g (lw_at lw_m5 16 rfl) rfl
theorem q1036 : (Jvm.Cond.fieldLink "jdk/internal/util/ArraysSupport" (20 : Nat) "jdk/internal/util/ArraysSupport" "LOG2_ARRAY_LONG_INDEX_SCALE" "I") ∈ lw_all := lw_g (lw_at lw_m5 17 rfl) rfl
theorem q1037 : (Jvm.Cond.laysStatic "jdk/internal/util/ArraysSupport" "LOG2_ARRAY_LONG_INDEX_SCALE" "I") ∈ lw_tbl := lw_at lw_m5 18 rfl
theorem q1038 : (Jvm.Cond.fieldLink "jdk/internal/util/ArraysSupport" (26 : Nat) "jdk/internal/util/ArraysSupport" "U" "Ljdk/internal/misc/Unsafe;") ∈ lw_all := lw_g (lw_at lw_m5 19 rfl) rfl
theorem q1039 : (Jvm.Cond.laysStatic "jdk/internal/util/ArraysSupport" "U" "Ljdk/internal/misc/Unsafe;") ∈ lw_tbl := lw_at lw_m5 20 rfl
theorem q1040 : (Jvm.Cond.methodLink "jdk/internal/util/ArraysSupport" (30 : Nat) ({ cls := "jdk/internal/misc/Unsafe", name := "getLongUnaligned", desc := "(Ljava/lang/Object;J)J" } : Jvm.MethodName)) ∈ lw_all := lw_g (lw_at lw_m5 21 rfl) rfl
theorem q1092 : (Jvm.Cond.fieldLink "jdk/internal/util/ArraysSupport" (36 : Nat) "jdk/internal/util/ArraysSupport" "BIG_ENDIAN" "Z") ∈ lw_all := lw_g (lw_at lw_m5 73 rfl) rfl
theorem q1093 : (Jvm.Cond.laysStatic "jdk/internal/util/ArraysSupport" "BIG_ENDIAN" "Z") ∈ lw_tbl := lw_at lw_m5 74 rfl
theorem q1094 : (Jvm.Cond.methodLink "jdk/internal/util/ArraysSupport" (40 : Nat) ({ cls := "java/lang/Long", name := "numberOfLeadingZeros", desc := "(J)I" } : Jvm.MethodName)) ∈ lw_all := lw_g (lw_at lw_m5 75 rfl) rfl
theorem q1101 : (Jvm.Cond.fieldLink "jdk/internal/util/ArraysSupport" (46 : Nat) "jdk/internal/util/ArraysSupport" "LOG2_BYTE_BIT_SIZE" "I") ∈ lw_all := lw_g (lw_at lw_m5 82 rfl) rfl
theorem q1102 : (Jvm.Cond.laysStatic "jdk/internal/util/ArraysSupport" "LOG2_BYTE_BIT_SIZE" "I") ∈ lw_tbl := lw_at lw_m5 83 rfl
theorem q1103 : (Jvm.Cond.methodLink "jdk/internal/util/ArraysSupport" (49 : Nat) ({ cls := "java/lang/Long", name := "numberOfTrailingZeros", desc := "(J)I" } : Jvm.MethodName)) ∈ lw_all := lw_g (lw_at lw_m5 84 rfl) rfl
theorem q1109 : (Jvm.Cond.fieldLink "jdk/internal/util/ArraysSupport" (51 : Nat) "jdk/internal/util/ArraysSupport" "LOG2_ARRAY_INT_INDEX_SCALE" "I") ∈ lw_all := lw_g (lw_at lw_m5 90 rfl) rfl
theorem q1110 : (Jvm.Cond.laysStatic "jdk/internal/util/ArraysSupport" "LOG2_ARRAY_INT_INDEX_SCALE" "I") ∈ lw_tbl := lw_at lw_m5 91 rfl
theorem q1111 : (Jvm.Cond.methodLink "jdk/internal/util/ArraysSupport" (54 : Nat) ({ cls := "jdk/internal/misc/Unsafe", name := "getIntUnaligned", desc := "(Ljava/lang/Object;J)I" } : Jvm.MethodName)) ∈ lw_all := lw_g (lw_at lw_m5 92 rfl) rfl
theorem q1128 : (Jvm.Cond.methodLink "jdk/internal/util/ArraysSupport" (58 : Nat) ({ cls := "java/lang/Integer", name := "numberOfLeadingZeros", desc := "(I)I" } : Jvm.MethodName)) ∈ lw_all := lw_g (lw_at lw_m5 109 rfl) rfl
theorem q1129 : (Jvm.Cond.methodLink "jdk/internal/util/ArraysSupport" (11 : Nat) ({ cls := "java/lang/Integer", name := "numberOfTrailingZeros", desc := "(I)I" } : Jvm.MethodName)) ∈ lw_all := lw_g (lw_at lw_m5 110 rfl) rfl
/-! java/lang/Math -/
def RJ15 : String := "java/lang/Math"
abbrev cJ15_min : ByteArray := prog_25_method_69_code
def yJ15_min : MethodName := ⟨RJ15, "min", "(II)I"⟩
abbrev cJ15_max : ByteArray := prog_25_method_65_code
def yJ15_max : MethodName := ⟨RJ15, "max", "(II)I"⟩
theorem q77 : (Jvm.Cond.initialized "java/lang/Math") ∈ lw_all := lw_g (lw_at lw_m1 18 rfl) rfl
theorem q267 : (Jvm.Cond.static ({ cls := "java/lang/Math", name := "min", desc := "(II)I" } : Jvm.MethodName)) ∈ lw_all := lw_g (lw_at lw_m1 208 rfl) rfl
theorem q268 : (Jvm.Cond.code ({ cls := "java/lang/Math", name := "min", desc := "(II)I" } : Jvm.MethodName) prog_25_method_69_code (2 : Nat) (Option.some Jvm.ClassFile.FieldType.int)) ∈ lw_all := lw_g (lw_at lw_m1 209 rfl) rfl
theorem q442 : (Jvm.Cond.static ({ cls := "java/lang/Math", name := "max", desc := "(II)I" } : Jvm.MethodName)) ∈ lw_all := lw_g (lw_at lw_m2 143 rfl) rfl
theorem q443 : (Jvm.Cond.code ({ cls := "java/lang/Math", name := "max", desc := "(II)I" } : Jvm.MethodName) prog_25_method_65_code (2 : Nat) (Option.some Jvm.ClassFile.FieldType.int)) ∈ lw_all := lw_g (lw_at lw_m2 144 rfl) rfl
/-! java/util/Arrays -/
def RJ16 : String := "java/util/Arrays"
abbrev cJ16_copyOfRange : ByteArray := prog_43_method_132_code
def yJ16_copyOfRange : MethodName := ⟨RJ16, "copyOfRange", "([BII)[B"⟩
abbrev cJ16_copyOfRangeByte : ByteArray := prog_43_method_133_code
def yJ16_copyOfRangeByte : MethodName := ⟨RJ16, "copyOfRangeByte", "([BII)[B"⟩
abbrev cJ16_checkLength : ByteArray := prog_43_method_131_code
def yJ16_checkLength : MethodName := ⟨RJ16, "checkLength", "(II)V"⟩
abbrev cJ16_copyOf : ByteArray := prog_43_method_121_code
def yJ16_copyOf : MethodName := ⟨RJ16, "copyOf", "([BI)[B"⟩
abbrev cJ16_copyOf_2 : ByteArray := prog_43_method_124_code
def yJ16_copyOf_2 : MethodName := ⟨RJ16, "copyOf", "([JI)[J"⟩
abbrev cJ16_copyOf_3 : ByteArray := prog_43_method_119_code
def yJ16_copyOf_3 : MethodName := ⟨RJ16, "copyOf", "([Ljava/lang/Object;I)[Ljava/lang/Object;"⟩
abbrev cJ16_copyOf_4 : ByteArray := prog_43_method_120_code
def yJ16_copyOf_4 : MethodName := ⟨RJ16, "copyOf", "([Ljava/lang/Object;ILjava/lang/Class;)[Ljava/lang/Object;"⟩
abbrev cJ16_fill : ByteArray := prog_43_method_110_code
def yJ16_fill : MethodName := ⟨RJ16, "fill", "([BIIB)V"⟩
abbrev cJ16_rangeCheck : ByteArray := prog_43_method_30_code
def yJ16_rangeCheck : MethodName := ⟨RJ16, "rangeCheck", "(III)V"⟩
theorem q78 : (Jvm.Cond.initialized "java/util/Arrays") ∈ lw_all := lw_g (lw_at lw_m1 19 rfl) rfl
theorem q399 : (Jvm.Cond.static ({ cls := "java/util/Arrays", name := "copyOfRange", desc := "([BII)[B" } : Jvm.MethodName)) ∈ lw_all := lw_g (lw_at lw_m2 100 rfl) rfl
theorem q400 : (Jvm.Cond.code ({ cls := "java/util/Arrays", name := "copyOfRange", desc := "([BII)[B" } : Jvm.MethodName) prog_43_method_132_code (3 : Nat) (Option.some (Jvm.ClassFile.FieldType.array Jvm.ClassFile.FieldType.byte))) ∈ lw_all := lw_g (lw_at lw_m2 101 rfl) rfl
theorem q401 : (Jvm.Cond.methodLink "java/util/Arrays" (339 : Nat) ({ cls := "java/util/Arrays", name := "copyOfRangeByte", desc := "([BII)[B" } : Jvm.MethodName)) ∈ lw_all := lw_g (lw_at lw_m2 102 rfl) rfl
theorem q402 : (Jvm.Cond.static ({ cls := "java/util/Arrays", name := "copyOfRangeByte", desc := "([BII)[B" } : Jvm.MethodName)) ∈ lw_all := lw_g (lw_at lw_m2 103 rfl) rfl
theorem q403 : (Jvm.Cond.code ({ cls := "java/util/Arrays", name := "copyOfRangeByte", desc := "([BII)[B" } : Jvm.MethodName) prog_43_method_133_code (5 : Nat) (Option.some (Jvm.ClassFile.FieldType.array Jvm.ClassFile.FieldType.byte))) ∈ lw_all := lw_g (lw_at lw_m2 104 rfl) rfl
theorem q404 : (Jvm.Cond.methodLink "java/util/Arrays" (343 : Nat) ({ cls := "java/util/Arrays", name := "checkLength", desc := "(II)V" } : Jvm.MethodName)) ∈ lw_all := lw_g (lw_at lw_m2 105 rfl) rfl
theorem q405 : (Jvm.Cond.static ({ cls := "java/util/Arrays", name := "checkLength", desc := "(II)V" } : Jvm.MethodName)) ∈ lw_all := lw_g (lw_at lw_m2 106 rfl) rfl
theorem q406 : (Jvm.Cond.code ({ cls := "java/util/Arrays", name := "checkLength", desc := "(II)V" } : Jvm.MethodName) prog_43_method_131_code (2 : Nat) (Option.none : Option Jvm.ClassFile.FieldType)) ∈ lw_all := lw_g (lw_at lw_m2 107 rfl) rfl
theorem q407 : (Jvm.Cond.classLink "java/util/Arrays" (43 : Nat) "java/lang/IllegalArgumentException") ∈ lw_all := lw_g (lw_at lw_m2 108 rfl) rfl
theorem q418 : (Jvm.Cond.classLink "java/util/Arrays" (45 : Nat) "java/lang/StringBuilder") ∈ lw_all := lw_g (lw_at lw_m2 119 rfl) rfl
theorem q419 : (Jvm.Cond.methodLink "java/util/Arrays" (47 : Nat) ({ cls := "java/lang/StringBuilder", name := "<init>", desc := "()V" } : Jvm.MethodName)) ∈ lw_all := lw_g (lw_at lw_m2 120 rfl) rfl
theorem q420 : (Jvm.Cond.methodLink "java/util/Arrays" (54 : Nat) ({ cls := "java/lang/StringBuilder", name := "append", desc := "(I)Ljava/lang/StringBuilder;" } : Jvm.MethodName)) ∈ lw_all := lw_g (lw_at lw_m2 121 rfl) rfl
theorem q450 : (Jvm.Cond.static ({ cls := "java/util/Arrays", name := "copyOf", desc := "([BI)[B" } : Jvm.MethodName)) ∈ lw_all := lw_g (lw_at lw_m2 151 rfl) rfl
theorem q451 : (Jvm.Cond.code ({ cls := "java/util/Arrays", name := "copyOf", desc := "([BI)[B" } : Jvm.MethodName) prog_43_method_121_code (3 : Nat) (Option.some (Jvm.ClassFile.FieldType.array Jvm.ClassFile.FieldType.byte))) ∈ lw_all := lw_g (lw_at lw_m2 152 rfl) rfl
theorem q452 : (Jvm.Cond.methodLink "java/util/Arrays" (310 : Nat) ({ cls := "[B", name := "clone", desc := "()Ljava/lang/Object;" } : Jvm.MethodName)) ∈ lw_all := lw_g (lw_at lw_m2 153 rfl) rfl
theorem q458 : (Jvm.Cond.classLink "java/util/Arrays" (311 : Nat) "[B") ∈ lw_all := lw_g (lw_at lw_m2 159 rfl) rfl
theorem q459 : (Jvm.Cond.methodLink "java/util/Arrays" (304 : Nat) ({ cls := "java/lang/Math", name := "min", desc := "(II)I" } : Jvm.MethodName)) ∈ lw_all := lw_g (lw_at lw_m2 160 rfl) rfl
theorem q460 : (Jvm.Cond.methodLink "java/util/Arrays" (150 : Nat) ({ cls := "java/lang/System", name := "arraycopy", desc := "(Ljava/lang/Object;ILjava/lang/Object;II)V" } : Jvm.MethodName)) ∈ lw_all := lw_g (lw_at lw_m2 161 rfl) rfl
theorem q488 : (Jvm.Cond.stringRef "java/util/Arrays" (337 : Nat) " > ") ∈ lw_tbl := lw_at lw_m2 189 rfl
theorem q489 : (Jvm.Cond.methodLink "java/util/Arrays" (50 : Nat) ({ cls := "java/lang/StringBuilder", name := "append", desc := "(Ljava/lang/String;)Ljava/lang/StringBuilder;" } : Jvm.MethodName)) ∈ lw_all := lw_g (lw_at lw_m2 190 rfl) rfl
theorem q546 : (Jvm.Cond.methodLink "java/util/Arrays" (61 : Nat) ({ cls := "java/lang/StringBuilder", name := "toString", desc := "()Ljava/lang/String;" } : Jvm.MethodName)) ∈ lw_all := lw_g (lw_at lw_m3 7 rfl) rfl
theorem q588 : (Jvm.Cond.methodLink "java/util/Arrays" (65 : Nat) ({ cls := "java/lang/IllegalArgumentException", name := "<init>", desc := "(Ljava/lang/String;)V" } : Jvm.MethodName)) ∈ lw_all := lw_g (lw_at lw_m3 49 rfl) rfl
theorem q814 : (Jvm.Cond.static ({ cls := "java/util/Arrays", name := "copyOf", desc := "([JI)[J" } : Jvm.MethodName)) ∈ lw_all := lw_g (lw_at lw_m4 35 rfl) rfl
theorem q815 : (Jvm.Cond.code ({ cls := "java/util/Arrays", name := "copyOf", desc := "([JI)[J" } : Jvm.MethodName) prog_43_method_124_code (3 : Nat) (Option.some (Jvm.ClassFile.FieldType.array Jvm.ClassFile.FieldType.long))) ∈ lw_all := lw_g (lw_at lw_m4 36 rfl) rfl
theorem q816 : (Jvm.Cond.methodLink "java/util/Arrays" (319 : Nat) ({ cls := "[J", name := "clone", desc := "()Ljava/lang/Object;" } : Jvm.MethodName)) ∈ lw_all := lw_g (lw_at lw_m4 37 rfl) rfl
theorem q820 : (Jvm.Cond.classLink "java/util/Arrays" (320 : Nat) "[J") ∈ lw_all := lw_g (lw_at lw_m4 41 rfl) rfl
theorem q856 : (Jvm.Cond.static ({ cls := "java/util/Arrays", name := "copyOf", desc := "([Ljava/lang/Object;I)[Ljava/lang/Object;" } : Jvm.MethodName)) ∈ lw_all := lw_g (lw_at lw_m4 77 rfl) rfl
theorem q857 : (Jvm.Cond.code ({ cls := "java/util/Arrays", name := "copyOf", desc := "([Ljava/lang/Object;I)[Ljava/lang/Object;" } : Jvm.MethodName) prog_43_method_119_code (2 : Nat) (Option.some (Jvm.ClassFile.FieldType.array (Jvm.ClassFile.FieldType.object "java/lang/Object")))) ∈ lw_all := lw_g (lw_at lw_m4 78 rfl) rfl
theorem q858 : (Jvm.Cond.methodLink "java/util/Arrays" (86 : Nat) ({ cls := "java/lang/Object", name := "getClass", desc := "()Ljava/lang/Class;" } : Jvm.MethodName)) ∈ lw_all := lw_g (lw_at lw_m4 79 rfl) rfl
theorem q883 : (Jvm.Cond.methodLink "java/util/Arrays" (300 : Nat) ({ cls := "java/util/Arrays", name := "copyOf", desc := "([Ljava/lang/Object;ILjava/lang/Class;)[Ljava/lang/Object;" } : Jvm.MethodName)) ∈ lw_all := lw_g (lw_at lw_m4 104 rfl) rfl
theorem q884 : (Jvm.Cond.static ({ cls := "java/util/Arrays", name := "copyOf", desc := "([Ljava/lang/Object;ILjava/lang/Class;)[Ljava/lang/Object;" } : Jvm.MethodName)) ∈ lw_all := lw_g (lw_at lw_m4 105 rfl) rfl
theorem q885 : (Jvm.Cond.code ({ cls := "java/util/Arrays", name := "copyOf", desc := "([Ljava/lang/Object;ILjava/lang/Class;)[Ljava/lang/Object;" } : Jvm.MethodName) prog_43_method_120_code (4 : Nat) (Option.some (Jvm.ClassFile.FieldType.array (Jvm.ClassFile.FieldType.object "java/lang/Object")))) ∈ lw_all := lw_g (lw_at lw_m4 106 rfl) rfl
theorem q886 : (Jvm.Cond.classLink "java/util/Arrays" (110 : Nat) "[Ljava/lang/Object;") ∈ lw_all := lw_g (lw_at lw_m4 107 rfl) rfl
theorem q888 : (Jvm.Cond.classLink "java/util/Arrays" (2 : Nat) "java/lang/Object") ∈ lw_all := lw_g (lw_at lw_m4 109 rfl) rfl
theorem q903 : (Jvm.Cond.static ({ cls := "java/util/Arrays", name := "fill", desc := "([BIIB)V" } : Jvm.MethodName)) ∈ lw_all := lw_g (lw_at lw_m4 124 rfl) rfl
theorem q904 : (Jvm.Cond.code ({ cls := "java/util/Arrays", name := "fill", desc := "([BIIB)V" } : Jvm.MethodName) prog_43_method_110_code (5 : Nat) (Option.none : Option Jvm.ClassFile.FieldType)) ∈ lw_all := lw_g (lw_at lw_m4 125 rfl) rfl
theorem q905 : (Jvm.Cond.methodLink "java/util/Arrays" (13 : Nat) ({ cls := "java/util/Arrays", name := "rangeCheck", desc := "(III)V" } : Jvm.MethodName)) ∈ lw_all := lw_g (lw_at lw_m4 126 rfl) rfl
theorem q906 : (Jvm.Cond.static ({ cls := "java/util/Arrays", name := "rangeCheck", desc := "(III)V" } : Jvm.MethodName)) ∈ lw_all := lw_g (lw_at lw_m4 127 rfl) rfl
theorem q907 : (Jvm.Cond.code ({ cls := "java/util/Arrays", name := "rangeCheck", desc := "(III)V" } : Jvm.MethodName) prog_43_method_30_code (3 : Nat) (Option.none : Option Jvm.ClassFile.FieldType)) ∈ lw_all := lw_g (lw_at lw_m4 128 rfl) rfl
theorem q908 : (Jvm.Cond.stringRef "java/util/Arrays" (48 : Nat) "fromIndex(") ∈ lw_tbl := lw_at lw_m4 129 rfl
theorem q909 : (Jvm.Cond.stringRef "java/util/Arrays" (57 : Nat) ") > toIndex(") ∈ lw_tbl := lw_at lw_m4 130 rfl
theorem q910 : (Jvm.Cond.stringRef "java/util/Arrays" (59 : Nat) ")") ∈ lw_tbl := lw_at lw_m4 131 rfl
/-! java/lang/StringLatin1 -/
def RJ17 : String := "java/lang/StringLatin1"
abbrev cJ17_newString : ByteArray := prog_31_method_47_code
def yJ17_newString : MethodName := ⟨RJ17, "newString", "([BII)Ljava/lang/String;"⟩
abbrev cJ17_inflate : ByteArray := prog_31_method_50_code
def yJ17_inflate : MethodName := ⟨RJ17, "inflate", "([BI[BII)V"⟩
abbrev cJ17_equals : ByteArray := prog_31_method_13_code
def yJ17_equals : MethodName := ⟨RJ17, "equals", "([B[B)Z"⟩
abbrev cJ17_indexOf : ByteArray := prog_31_method_22_code
def yJ17_indexOf : MethodName := ⟨RJ17, "indexOf", "([BIII)I"⟩
abbrev cJ17_canEncode : ByteArray := prog_31_method_4_code
def yJ17_canEncode : MethodName := ⟨RJ17, "canEncode", "(I)Z"⟩
abbrev cJ17_indexOfChar : ByteArray := prog_31_method_23_code
def yJ17_indexOfChar : MethodName := ⟨RJ17, "indexOfChar", "([BIII)I"⟩
abbrev cJ17_fillNull : ByteArray := prog_31_method_48_code
def yJ17_fillNull : MethodName := ⟨RJ17, "fillNull", "([BII)V"⟩
abbrev cJ17_compareTo : ByteArray := prog_31_method_14_code
def yJ17_compareTo : MethodName := ⟨RJ17, "compareTo", "([B[B)I"⟩
abbrev cJ17_compareTo_2 : ByteArray := prog_31_method_15_code
def yJ17_compareTo_2 : MethodName := ⟨RJ17, "compareTo", "([B[BII)I"⟩
abbrev cJ17_getChar : ByteArray := prog_31_method_44_code
def yJ17_getChar : MethodName := ⟨RJ17, "getChar", "([BI)C"⟩
abbrev cJ17_compareToUTF16 : ByteArray := prog_31_method_16_code
def yJ17_compareToUTF16 : MethodName := ⟨RJ17, "compareToUTF16", "([B[B)I"⟩
abbrev cJ17_length : ByteArray := prog_31_method_5_code
def yJ17_length : MethodName := ⟨RJ17, "length", "([B)I"⟩
abbrev cJ17_compareToUTF16Values : ByteArray := prog_31_method_18_code
def yJ17_compareToUTF16Values : MethodName := ⟨RJ17, "compareToUTF16Values", "([B[BII)I"⟩
abbrev cJ17_compareToUTF16_2 : ByteArray := prog_31_method_17_code
def yJ17_compareToUTF16_2 : MethodName := ⟨RJ17, "compareToUTF16", "([B[BII)I"⟩
abbrev cJ17_canEncode_2 : ByteArray := prog_31_method_3_code
def yJ17_canEncode_2 : MethodName := ⟨RJ17, "canEncode", "(C)Z"⟩
abbrev cJ17_charAt : ByteArray := prog_31_method_2_code
def yJ17_charAt : MethodName := ⟨RJ17, "charAt", "([BI)C"⟩
theorem q80 : (Jvm.Cond.initialized "java/lang/StringLatin1") ∈ lw_all := lw_g (lw_at lw_m1 21 rfl) rfl
theorem q393 : (Jvm.Cond.static ({ cls := "java/lang/StringLatin1", name := "newString", desc := "([BII)Ljava/lang/String;" } : Jvm.MethodName)) ∈ lw_all := lw_g (lw_at lw_m2 94 rfl) rfl
theorem q394 : (Jvm.Cond.code ({ cls := "java/lang/StringLatin1", name := "newString", desc := "([BII)Ljava/lang/String;" } : Jvm.MethodName) prog_31_method_47_code (3 : Nat) (Option.some (Jvm.ClassFile.FieldType.object "java/lang/String"))) ∈ lw_all := lw_g (lw_at lw_m2 95 rfl) rfl
theorem q395 : (Jvm.Cond.stringRef "java/lang/StringLatin1" (151 : Nat) "") ∈ lw_tbl := lw_at lw_m2 96 rfl
theorem q396 : (Jvm.Cond.classLink "java/lang/StringLatin1" (1 : Nat) "java/lang/String") ∈ lw_all := lw_g (lw_at lw_m2 97 rfl) rfl
theorem q398 : (Jvm.Cond.methodLink "java/lang/StringLatin1" (232 : Nat) ({ cls := "java/util/Arrays", name := "copyOfRange", desc := "([BII)[B" } : Jvm.MethodName)) ∈ lw_all := lw_g (lw_at lw_m2 99 rfl) rfl
theorem q526 : (Jvm.Cond.static ({ cls := "java/lang/StringLatin1", name := "inflate", desc := "([BI[BII)V" } : Jvm.MethodName)) ∈ lw_all := lw_g (lw_at lw_m2 227 rfl) rfl
theorem q527 : (Jvm.Cond.code ({ cls := "java/lang/StringLatin1", name := "inflate", desc := "([BI[BII)V" } : Jvm.MethodName) prog_31_method_50_code (5 : Nat) (Option.none : Option Jvm.ClassFile.FieldType)) ∈ lw_all := lw_g (lw_at lw_m2 228 rfl) rfl
theorem q528 : (Jvm.Cond.methodLink "java/lang/StringLatin1" (240 : Nat) ({ cls := "java/lang/StringUTF16", name := "inflate", desc := "([BI[BII)V" } : Jvm.MethodName)) ∈ lw_all := lw_g (lw_at lw_m2 229 rfl) rfl
theorem q597 : (Jvm.Cond.methodLink "java/lang/StringLatin1" (112 : Nat) ({ cls := "java/lang/String", name := "<init>", desc := "([BB)V" } : Jvm.MethodName)) ∈ lw_all := lw_g (lw_at lw_m3 58 rfl) rfl
theorem q733 : (Jvm.Cond.static ({ cls := "java/lang/StringLatin1", name := "equals", desc := "([B[B)Z" } : Jvm.MethodName)) ∈ lw_all := lw_g (lw_at lw_m3 194 rfl) rfl
theorem q734 : (Jvm.Cond.code ({ cls := "java/lang/StringLatin1", name := "equals", desc := "([B[B)Z" } : Jvm.MethodName) prog_31_method_13_code (3 : Nat) (Option.some Jvm.ClassFile.FieldType.boolean)) ∈ lw_all := lw_g (lw_at lw_m3 195 rfl) rfl
theorem q759 : (Jvm.Cond.static ({ cls := "java/lang/StringLatin1", name := "indexOf", desc := "([BIII)I" } : Jvm.MethodName)) ∈ lw_all := lw_g (lw_at lw_m3 220 rfl) rfl
theorem q760 : (Jvm.Cond.code ({ cls := "java/lang/StringLatin1", name := "indexOf", desc := "([BIII)I" } : Jvm.MethodName) prog_31_method_22_code (4 : Nat) (Option.some Jvm.ClassFile.FieldType.int)) ∈ lw_all := lw_g (lw_at lw_m3 221 rfl) rfl
theorem q761 : (Jvm.Cond.methodLink "java/lang/StringLatin1" (88 : Nat) ({ cls := "java/lang/StringLatin1", name := "canEncode", desc := "(I)Z" } : Jvm.MethodName)) ∈ lw_all := lw_g (lw_at lw_m3 222 rfl) rfl
theorem q762 : (Jvm.Cond.static ({ cls := "java/lang/StringLatin1", name := "canEncode", desc := "(I)Z" } : Jvm.MethodName)) ∈ lw_all := lw_g (lw_at lw_m3 223 rfl) rfl
theorem q763 : (Jvm.Cond.code ({ cls := "java/lang/StringLatin1", name := "canEncode", desc := "(I)Z" } : Jvm.MethodName) prog_31_method_4_code (1 : Nat) (Option.some Jvm.ClassFile.FieldType.boolean)) ∈ lw_all := lw_g (lw_at lw_m3 224 rfl) rfl
theorem q764 : (Jvm.Cond.methodLink "java/lang/StringLatin1" (92 : Nat) ({ cls := "java/lang/Math", name := "max", desc := "(II)I" } : Jvm.MethodName)) ∈ lw_all := lw_g (lw_at lw_m3 225 rfl) rfl
theorem q765 : (Jvm.Cond.methodLink "java/lang/StringLatin1" (38 : Nat) ({ cls := "java/lang/Math", name := "min", desc := "(II)I" } : Jvm.MethodName)) ∈ lw_all := lw_g (lw_at lw_m3 226 rfl) rfl
theorem q766 : (Jvm.Cond.methodLink "java/lang/StringLatin1" (95 : Nat) ({ cls := "java/lang/StringLatin1", name := "indexOfChar", desc := "([BIII)I" } : Jvm.MethodName)) ∈ lw_all := lw_g (lw_at lw_m3 227 rfl) rfl
theorem q767 : (Jvm.Cond.static ({ cls := "java/lang/StringLatin1", name := "indexOfChar", desc := "([BIII)I" } : Jvm.MethodName)) ∈ lw_all := lw_g (lw_at lw_m3 228 rfl) rfl
theorem q768 : (Jvm.Cond.code ({ cls := "java/lang/StringLatin1", name := "indexOfChar", desc := "([BIII)I" } : Jvm.MethodName) prog_31_method_23_code (6 : Nat) (Option.some Jvm.ClassFile.FieldType.int)) ∈ lw_all := lw_g (lw_at lw_m3 229 rfl) rfl
theorem q900 : (Jvm.Cond.static ({ cls := "java/lang/StringLatin1", name := "fillNull", desc := "([BII)V" } : Jvm.MethodName)) ∈ lw_all := lw_g (lw_at lw_m4 121 rfl) rfl
theorem q901 : (Jvm.Cond.code ({ cls := "java/lang/StringLatin1", name := "fillNull", desc := "([BII)V" } : Jvm.MethodName) prog_31_method_48_code (3 : Nat) (Option.none : Option Jvm.ClassFile.FieldType)) ∈ lw_all := lw_g (lw_at lw_m4 122 rfl) rfl
theorem q902 : (Jvm.Cond.methodLink "java/lang/StringLatin1" (236 : Nat) ({ cls := "java/util/Arrays", name := "fill", desc := "([BIIB)V" } : Jvm.MethodName)) ∈ lw_all := lw_g (lw_at lw_m4 123 rfl) rfl
theorem q1021 : (Jvm.Cond.static ({ cls := "java/lang/StringLatin1", name := "compareTo", desc := "([B[B)I" } : Jvm.MethodName)) ∈ lw_all := lw_g (lw_at lw_m5 2 rfl) rfl
theorem q1022 : (Jvm.Cond.code ({ cls := "java/lang/StringLatin1", name := "compareTo", desc := "([B[B)I" } : Jvm.MethodName) prog_31_method_14_code (4 : Nat) (Option.some Jvm.ClassFile.FieldType.int)) ∈ lw_all := lw_g (lw_at lw_m5 3 rfl) rfl
theorem q1023 : (Jvm.Cond.methodLink "java/lang/StringLatin1" (34 : Nat) ({ cls := "java/lang/StringLatin1", name := "compareTo", desc := "([B[BII)I" } : Jvm.MethodName)) ∈ lw_all := lw_g (lw_at lw_m5 4 rfl) rfl
theorem q1024 : (Jvm.Cond.static ({ cls := "java/lang/StringLatin1", name := "compareTo", desc := "([B[BII)I" } : Jvm.MethodName)) ∈ lw_all := lw_g (lw_at lw_m5 5 rfl) rfl
theorem q1025 : (Jvm.Cond.code ({ cls := "java/lang/StringLatin1", name := "compareTo", desc := "([B[BII)I" } : Jvm.MethodName) prog_31_method_15_code (6 : Nat) (Option.some Jvm.ClassFile.FieldType.int)) ∈ lw_all := lw_g (lw_at lw_m5 6 rfl) rfl
theorem q1026 : (Jvm.Cond.methodLink "java/lang/StringLatin1" (44 : Nat) ({ cls := "jdk/internal/util/ArraysSupport", name := "mismatch", desc := "([B[BI)I" } : Jvm.MethodName)) ∈ lw_all := lw_g (lw_at lw_m5 7 rfl) rfl
theorem q1130 : (Jvm.Cond.methodLink "java/lang/StringLatin1" (50 : Nat) ({ cls := "java/lang/StringLatin1", name := "getChar", desc := "([BI)C" } : Jvm.MethodName)) ∈ lw_all := lw_g (lw_at lw_m5 111 rfl) rfl
theorem q1131 : (Jvm.Cond.static ({ cls := "java/lang/StringLatin1", name := "getChar", desc := "([BI)C" } : Jvm.MethodName)) ∈ lw_all := lw_g (lw_at lw_m5 112 rfl) rfl
theorem q1132 : (Jvm.Cond.code ({ cls := "java/lang/StringLatin1", name := "getChar", desc := "([BI)C" } : Jvm.MethodName) prog_31_method_44_code (2 : Nat) (Option.some Jvm.ClassFile.FieldType.char)) ∈ lw_all := lw_g (lw_at lw_m5 113 rfl) rfl
theorem q1140 : (Jvm.Cond.static ({ cls := "java/lang/StringLatin1", name := "compareToUTF16", desc := "([B[B)I" } : Jvm.MethodName)) ∈ lw_all := lw_g (lw_at lw_m5 121 rfl) rfl
theorem q1141 : (Jvm.Cond.code ({ cls := "java/lang/StringLatin1", name := "compareToUTF16", desc := "([B[B)I" } : Jvm.MethodName) prog_31_method_16_code (4 : Nat) (Option.some Jvm.ClassFile.FieldType.int)) ∈ lw_all := lw_g (lw_at lw_m5 122 rfl) rfl
theorem q1142 : (Jvm.Cond.methodLink "java/lang/StringLatin1" (54 : Nat) ({ cls := "java/lang/StringLatin1", name := "length", desc := "([B)I" } : Jvm.MethodName)) ∈ lw_all := lw_g (lw_at lw_m5 123 rfl) rfl
theorem q1143 : (Jvm.Cond.static ({ cls := "java/lang/StringLatin1", name := "length", desc := "([B)I" } : Jvm.MethodName)) ∈ lw_all := lw_g (lw_at lw_m5 124 rfl) rfl
theorem q1144 : (Jvm.Cond.code ({ cls := "java/lang/StringLatin1", name := "length", desc := "([B)I" } : Jvm.MethodName) prog_31_method_5_code (1 : Nat) (Option.some Jvm.ClassFile.FieldType.int)) ∈ lw_all := lw_g (lw_at lw_m5 125 rfl) rfl
theorem q1145 : (Jvm.Cond.methodLink "java/lang/StringLatin1" (58 : Nat) ({ cls := "java/lang/StringUTF16", name := "length", desc := "([B)I" } : Jvm.MethodName)) ∈ lw_all := lw_g (lw_at lw_m5 126 rfl) rfl
theorem q1146 : (Jvm.Cond.methodLink "java/lang/StringLatin1" (59 : Nat) ({ cls := "java/lang/StringLatin1", name := "compareToUTF16Values", desc := "([B[BII)I" } : Jvm.MethodName)) ∈ lw_all := lw_g (lw_at lw_m5 127 rfl) rfl
theorem q1147 : (Jvm.Cond.static ({ cls := "java/lang/StringLatin1", name := "compareToUTF16Values", desc := "([B[BII)I" } : Jvm.MethodName)) ∈ lw_all := lw_g (lw_at lw_m5 128 rfl) rfl
theorem q1148 : (Jvm.Cond.code ({ cls := "java/lang/StringLatin1", name := "compareToUTF16Values", desc := "([B[BII)I" } : Jvm.MethodName) prog_31_method_18_code (8 : Nat) (Option.some Jvm.ClassFile.FieldType.int)) ∈ lw_all := lw_g (lw_at lw_m5 129 rfl) rfl
theorem q1149 : (Jvm.Cond.methodLink "java/lang/StringLatin1" (65 : Nat) ({ cls := "java/lang/StringUTF16", name := "getChar", desc := "([BI)C" } : Jvm.MethodName)) ∈ lw_all := lw_g (lw_at lw_m5 130 rfl) rfl
theorem q1179 : (Jvm.Cond.static ({ cls := "java/lang/StringLatin1", name := "compareToUTF16", desc := "([B[BII)I" } : Jvm.MethodName)) ∈ lw_all := lw_g (lw_at lw_m5 160 rfl) rfl
theorem q1180 : (Jvm.Cond.code ({ cls := "java/lang/StringLatin1", name := "compareToUTF16", desc := "([B[BII)I" } : Jvm.MethodName) prog_31_method_17_code (4 : Nat) (Option.some Jvm.ClassFile.FieldType.int)) ∈ lw_all := lw_g (lw_at lw_m5 161 rfl) rfl
theorem q1181 : (Jvm.Cond.methodLink "java/lang/StringLatin1" (62 : Nat) ({ cls := "java/lang/String", name := "checkOffset", desc := "(II)V" } : Jvm.MethodName)) ∈ lw_all := lw_g (lw_at lw_m5 162 rfl) rfl
theorem q1226 : (Jvm.Cond.static ({ cls := "java/lang/StringLatin1", name := "canEncode", desc := "(C)Z" } : Jvm.MethodName)) ∈ lw_all := lw_g (lw_at lw_m5 207 rfl) rfl
theorem q1227 : (Jvm.Cond.code ({ cls := "java/lang/StringLatin1", name := "canEncode", desc := "(C)Z" } : Jvm.MethodName) prog_31_method_3_code (1 : Nat) (Option.some Jvm.ClassFile.FieldType.boolean)) ∈ lw_all := lw_g (lw_at lw_m5 208 rfl) rfl
theorem q1511 : (Jvm.Cond.static ({ cls := "java/lang/StringLatin1", name := "charAt", desc := "([BI)C" } : Jvm.MethodName)) ∈ lw_all := lw_g (lw_at lw_m7 12 rfl) rfl
theorem q1512 : (Jvm.Cond.code ({ cls := "java/lang/StringLatin1", name := "charAt", desc := "([BI)C" } : Jvm.MethodName) prog_31_method_2_code (2 : Nat) (Option.some Jvm.ClassFile.FieldType.char)) ∈ lw_all := lw_g (lw_at lw_m7 13 rfl) rfl
theorem q1513 : (Jvm.Cond.methodLink "java/lang/StringLatin1" (9 : Nat) ({ cls := "java/lang/String", name := "checkIndex", desc := "(II)V" } : Jvm.MethodName)) ∈ lw_all := lw_g (lw_at lw_m7 14 rfl) rfl
/-! jdk/internal/util/Preconditions -/
def RJ18 : String := "jdk/internal/util/Preconditions"
abbrev cJ18_checkIndex : ByteArray := prog_66_method_11_code
def yJ18_checkIndex : MethodName := ⟨RJ18, "checkIndex", "(IILjava/util/function/BiFunction;)I"⟩
abbrev cJ18_checkFromToIndex : ByteArray := prog_66_method_12_code
def yJ18_checkFromToIndex : MethodName := ⟨RJ18, "checkFromToIndex", "(IIILjava/util/function/BiFunction;)I"⟩
abbrev cJ18_checkFromIndexSize : ByteArray := prog_66_method_13_code
def yJ18_checkFromIndexSize : MethodName := ⟨RJ18, "checkFromIndexSize", "(IIILjava/util/function/BiFunction;)I"⟩
theorem q81 : (Jvm.Cond.initialized "jdk/internal/util/Preconditions") ∈ lw_all := lw_g (lw_at lw_m1 22 rfl) rfl
theorem q273 : (Jvm.Cond.laysStatic "jdk/internal/util/Preconditions" "SIOOBE_FORMATTER" "Ljava/util/function/BiFunction;") ∈ lw_tbl := lw_at lw_m1 214 rfl
theorem q275 : (Jvm.Cond.static ({ cls := "jdk/internal/util/Preconditions", name := "checkIndex", desc := "(IILjava/util/function/BiFunction;)I" } : Jvm.MethodName)) ∈ lw_all := lw_g (lw_at lw_m1 216 rfl) rfl
theorem q276 : (Jvm.Cond.code ({ cls := "jdk/internal/util/Preconditions", name := "checkIndex", desc := "(IILjava/util/function/BiFunction;)I" } : Jvm.MethodName) prog_66_method_11_code (3 : Nat) (Option.some Jvm.ClassFile.FieldType.int)) ∈ lw_all := lw_g (lw_at lw_m1 217 rfl) rfl
theorem q385 : (Jvm.Cond.static ({ cls := "jdk/internal/util/Preconditions", name := "checkFromToIndex", desc := "(IIILjava/util/function/BiFunction;)I" } : Jvm.MethodName)) ∈ lw_all := lw_g (lw_at lw_m2 86 rfl) rfl
theorem q386 : (Jvm.Cond.code ({ cls := "jdk/internal/util/Preconditions", name := "checkFromToIndex", desc := "(IIILjava/util/function/BiFunction;)I" } : Jvm.MethodName) prog_66_method_12_code (4 : Nat) (Option.some Jvm.ClassFile.FieldType.int)) ∈ lw_all := lw_g (lw_at lw_m2 87 rfl) rfl
theorem q538 : (Jvm.Cond.static ({ cls := "jdk/internal/util/Preconditions", name := "checkFromIndexSize", desc := "(IIILjava/util/function/BiFunction;)I" } : Jvm.MethodName)) ∈ lw_all := lw_g (lw_at lw_m2 239 rfl) rfl
theorem q539 : (Jvm.Cond.code ({ cls := "jdk/internal/util/Preconditions", name := "checkFromIndexSize", desc := "(IIILjava/util/function/BiFunction;)I" } : Jvm.MethodName) prog_66_method_13_code (4 : Nat) (Option.some Jvm.ClassFile.FieldType.int)) ∈ lw_all := lw_g (lw_at lw_m3 0 rfl) rfl
theorem q1587 : (Jvm.Cond.laysStatic "jdk/internal/util/Preconditions" "IOOBE_FORMATTER" "Ljava/util/function/BiFunction;") ∈ lw_tbl := lw_at lw_m7 88 rfl
/-! java/lang/Number -/
def RJ19 : String := "java/lang/Number"
abbrev cJ19_init : ByteArray := prog_26_method_1_code
def yJ19_init : MethodName := ⟨RJ19, "<init>", "()V"⟩
theorem q82 : (Jvm.Cond.initialized "java/lang/Number") ∈ lw_all := lw_g (lw_at lw_m1 23 rfl) rfl
theorem q948 : (Jvm.Cond.instanceMethod ({ cls := "java/lang/Number", name := "<init>", desc := "()V" } : Jvm.MethodName)) ∈ lw_all := lw_g (lw_at lw_m4 169 rfl) rfl
theorem q949 : (Jvm.Cond.code ({ cls := "java/lang/Number", name := "<init>", desc := "()V" } : Jvm.MethodName) prog_26_method_1_code (1 : Nat) (Option.none : Option Jvm.ClassFile.FieldType)) ∈ lw_all := lw_g (lw_at lw_m4 170 rfl) rfl
theorem q950 : (Jvm.Cond.methodLink "java/lang/Number" (1 : Nat) ({ cls := "java/lang/Object", name := "<init>", desc := "()V" } : Jvm.MethodName)) ∈ lw_all := lw_g (lw_at lw_m4 171 rfl) rfl
/-! java/lang/Integer -/
def RJ20 : String := "java/lang/Integer"
def TJ20 : u_T := fun k => match k with
  | _ => ("java/lang/Integer", "value", "I", true)
def tyJ20 : Nat → FieldType := fun k => match k with
  | _ => .int
abbrev wsJ200 : List Cond := u_ws RJ20 TJ20 1
theorem nmJ20 : ∀ a, a < 1 → ∀ b, b < 1 → a ≠ b → (TJ20 a).2.1 ≠ (TJ20 b).2.1 := by decide +kernel
theorem tyJ20_ok : ∀ k, k < 1 → parseFieldDescriptor (TJ20 k).2.2.1 = some (tyJ20 k) := by decide +kernel
abbrev cJ20_stringSize : ByteArray := prog_21_method_13_code
def yJ20_stringSize : MethodName := ⟨RJ20, "stringSize", "(I)I"⟩
abbrev cJ20_getChars : ByteArray := prog_21_method_12_code
def yJ20_getChars : MethodName := ⟨RJ20, "getChars", "(II[B)I"⟩
abbrev cJ20_valueOf : ByteArray := prog_21_method_22_code
def yJ20_valueOf : MethodName := ⟨RJ20, "valueOf", "(I)Ljava/lang/Integer;"⟩
abbrev cJ20_init : ByteArray := prog_21_method_23_code
def yJ20_init : MethodName := ⟨RJ20, "<init>", "(I)V"⟩
abbrev cJ20_compareTo : ByteArray := prog_21_method_63_code
def yJ20_compareTo : MethodName := ⟨RJ20, "compareTo", "(Ljava/lang/Object;)I"⟩
abbrev cJ20_compareTo_2 : ByteArray := prog_21_method_39_code
def yJ20_compareTo_2 : MethodName := ⟨RJ20, "compareTo", "(Ljava/lang/Integer;)I"⟩
abbrev cJ20_compare : ByteArray := prog_21_method_40_code
def yJ20_compare : MethodName := ⟨RJ20, "compare", "(II)I"⟩
abbrev cJ20_numberOfLeadingZeros : ByteArray := prog_21_method_47_code
def yJ20_numberOfLeadingZeros : MethodName := ⟨RJ20, "numberOfLeadingZeros", "(I)I"⟩
abbrev cJ20_numberOfTrailingZeros : ByteArray := prog_21_method_48_code
def yJ20_numberOfTrailingZeros : MethodName := ⟨RJ20, "numberOfTrailingZeros", "(I)I"⟩
abbrev cJ20_intValue : ByteArray := prog_21_method_27_code
def yJ20_intValue : MethodName := ⟨RJ20, "intValue", "()I"⟩
theorem q83 : (Jvm.Cond.initialized "java/lang/Integer") ∈ lw_all := lw_g (lw_at lw_m1 24 rfl) rfl
theorem q428 : (Jvm.Cond.static ({ cls := "java/lang/Integer", name := "stringSize", desc := "(I)I" } : Jvm.MethodName)) ∈ lw_all := lw_g (lw_at lw_m2 129 rfl) rfl
theorem q429 : (Jvm.Cond.code ({ cls := "java/lang/Integer", name := "stringSize", desc := "(I)I" } : Jvm.MethodName) prog_21_method_13_code (4 : Nat) (Option.some Jvm.ClassFile.FieldType.int)) ∈ lw_all := lw_g (lw_at lw_m2 130 rfl) rfl
theorem q464 : (Jvm.Cond.static ({ cls := "java/lang/Integer", name := "getChars", desc := "(II[B)I" } : Jvm.MethodName)) ∈ lw_all := lw_g (lw_at lw_m2 165 rfl) rfl
theorem q465 : (Jvm.Cond.code ({ cls := "java/lang/Integer", name := "getChars", desc := "(II[B)I" } : Jvm.MethodName) prog_21_method_12_code (7 : Nat) (Option.some Jvm.ClassFile.FieldType.int)) ∈ lw_all := lw_g (lw_at lw_m2 166 rfl) rfl
theorem q466 : (Jvm.Cond.fieldLink "java/lang/Integer" (83 : Nat) "java/lang/Integer" "DigitOnes" "[B") ∈ lw_all := lw_g (lw_at lw_m2 167 rfl) rfl
theorem q467 : (Jvm.Cond.laysStatic "java/lang/Integer" "DigitOnes" "[B") ∈ lw_tbl := lw_at lw_m2 168 rfl
theorem q468 : (Jvm.Cond.fieldLink "java/lang/Integer" (87 : Nat) "java/lang/Integer" "DigitTens" "[B") ∈ lw_all := lw_g (lw_at lw_m2 169 rfl) rfl
theorem q469 : (Jvm.Cond.laysStatic "java/lang/Integer" "DigitTens" "[B") ∈ lw_tbl := lw_at lw_m2 170 rfl
theorem q871 : (Jvm.Cond.selects "java/lang/Integer" ({ cls := "java/lang/Object", name := "getClass", desc := "()Ljava/lang/Class;" } : Jvm.MethodName) ({ cls := "java/lang/Object", name := "getClass", desc := "()Ljava/lang/Class;" } : Jvm.MethodName)) ∈ lw_all := lw_g (lw_at lw_m4 92 rfl) rfl
theorem q936 : (Jvm.Cond.static ({ cls := "java/lang/Integer", name := "valueOf", desc := "(I)Ljava/lang/Integer;" } : Jvm.MethodName)) ∈ lw_all := lw_g (lw_at lw_m4 157 rfl) rfl
theorem q937 : (Jvm.Cond.code ({ cls := "java/lang/Integer", name := "valueOf", desc := "(I)Ljava/lang/Integer;" } : Jvm.MethodName) prog_21_method_22_code (1 : Nat) (Option.some (Jvm.ClassFile.FieldType.object "java/lang/Integer"))) ∈ lw_all := lw_g (lw_at lw_m4 158 rfl) rfl
theorem q938 : (Jvm.Cond.fieldLink "java/lang/Integer" (191 : Nat) "java/lang/Integer$IntegerCache" "high" "I") ∈ lw_all := lw_g (lw_at lw_m4 159 rfl) rfl
theorem q940 : (Jvm.Cond.fieldLink "java/lang/Integer" (195 : Nat) "java/lang/Integer$IntegerCache" "cache" "[Ljava/lang/Integer;") ∈ lw_all := lw_g (lw_at lw_m4 161 rfl) rfl
theorem q942 : (Jvm.Cond.classLink "java/lang/Integer" (1 : Nat) "java/lang/Integer") ∈ lw_all := lw_g (lw_at lw_m4 163 rfl) rfl
theorem q943 : (Jvm.Cond.instantiable "java/lang/Integer" (1 : Nat)) ∈ lw_all := lw_g (lw_at lw_m4 164 rfl) rfl
theorem q944 : (Jvm.Cond.methodLink "java/lang/Integer" (199 : Nat) ({ cls := "java/lang/Integer", name := "<init>", desc := "(I)V" } : Jvm.MethodName)) ∈ lw_all := lw_g (lw_at lw_m4 165 rfl) rfl
theorem q945 : (Jvm.Cond.instanceMethod ({ cls := "java/lang/Integer", name := "<init>", desc := "(I)V" } : Jvm.MethodName)) ∈ lw_all := lw_g (lw_at lw_m4 166 rfl) rfl
theorem q946 : (Jvm.Cond.code ({ cls := "java/lang/Integer", name := "<init>", desc := "(I)V" } : Jvm.MethodName) prog_21_method_23_code (2 : Nat) (Option.none : Option Jvm.ClassFile.FieldType)) ∈ lw_all := lw_g (lw_at lw_m4 167 rfl) rfl
theorem q947 : (Jvm.Cond.methodLink "java/lang/Integer" (202 : Nat) ({ cls := "java/lang/Number", name := "<init>", desc := "()V" } : Jvm.MethodName)) ∈ lw_all := lw_g (lw_at lw_m4 168 rfl) rfl
theorem q951 : (Jvm.Cond.fieldLink "java/lang/Integer" (205 : Nat) "java/lang/Integer" "value" "I") ∈ lw_all := lw_g (lw_at lw_m4 172 rfl) rfl
theorem q952 : (Jvm.Cond.laysFinal "java/lang/Integer" "java/lang/Integer" "value" "I") ∈ lw_all := lw_g (lw_at lw_m4 173 rfl) rfl
theorem q953 : (Jvm.Cond.soleField "java/lang/Integer" "value") ∈ lw_all := lw_g (lw_at lw_m4 174 rfl) rfl
theorem q954 : (Jvm.Cond.superclass "java/lang/Integer" "java/lang/Number") ∈ lw_all := lw_g (lw_at lw_m4 175 rfl) rfl
theorem q997 : (Jvm.Cond.castable "java/lang/Integer" "java/lang/Comparable") ∈ lw_tbl := lw_at lw_m4 218 rfl
theorem q998 : (Jvm.Cond.selects "java/lang/Integer" ({ cls := "java/lang/Comparable", name := "compareTo", desc := "(Ljava/lang/Object;)I" } : Jvm.MethodName) ({ cls := "java/lang/Integer", name := "compareTo", desc := "(Ljava/lang/Object;)I" } : Jvm.MethodName)) ∈ lw_all := lw_g (lw_at lw_m4 219 rfl) rfl
theorem q999 : (Jvm.Cond.unhidden "java/lang/Integer" "compareTo" "(Ljava/lang/Object;)I") ∈ lw_tbl := lw_at lw_m4 220 rfl
theorem q1000 : (Jvm.Cond.instanceMethod ({ cls := "java/lang/Integer", name := "compareTo", desc := "(Ljava/lang/Object;)I" } : Jvm.MethodName)) ∈ lw_all := lw_g (lw_at lw_m4 221 rfl) rfl
theorem q1001 : (Jvm.Cond.publicMethod ({ cls := "java/lang/Integer", name := "compareTo", desc := "(Ljava/lang/Object;)I" } : Jvm.MethodName)) ∈ lw_tbl := lw_at lw_m4 222 rfl
theorem q1002 : (Jvm.Cond.code ({ cls := "java/lang/Integer", name := "compareTo", desc := "(Ljava/lang/Object;)I" } : Jvm.MethodName) prog_21_method_63_code (2 : Nat) (Option.some Jvm.ClassFile.FieldType.int)) ∈ lw_all := lw_g (lw_at lw_m4 223 rfl) rfl
theorem q1003 : (Jvm.Cond.methodLink "java/lang/Integer" (284 : Nat) ({ cls := "java/lang/Integer", name := "compareTo", desc := "(Ljava/lang/Integer;)I" } : Jvm.MethodName)) ∈ lw_all := lw_g (lw_at lw_m4 224 rfl) rfl
theorem q1004 : (Jvm.Cond.instanceMethod ({ cls := "java/lang/Integer", name := "compareTo", desc := "(Ljava/lang/Integer;)I" } : Jvm.MethodName)) ∈ lw_all := lw_g (lw_at lw_m4 225 rfl) rfl
theorem q1005 : (Jvm.Cond.selects "java/lang/Integer" ({ cls := "java/lang/Integer", name := "compareTo", desc := "(Ljava/lang/Integer;)I" } : Jvm.MethodName) ({ cls := "java/lang/Integer", name := "compareTo", desc := "(Ljava/lang/Integer;)I" } : Jvm.MethodName)) ∈ lw_all := lw_g (lw_at lw_m4 226 rfl) rfl
theorem q1006 : (Jvm.Cond.code ({ cls := "java/lang/Integer", name := "compareTo", desc := "(Ljava/lang/Integer;)I" } : Jvm.MethodName) prog_21_method_39_code (2 : Nat) (Option.some Jvm.ClassFile.FieldType.int)) ∈ lw_all := lw_g (lw_at lw_m4 227 rfl) rfl
theorem q1007 : (Jvm.Cond.methodLink "java/lang/Integer" (259 : Nat) ({ cls := "java/lang/Integer", name := "compare", desc := "(II)I" } : Jvm.MethodName)) ∈ lw_all := lw_g (lw_at lw_m4 228 rfl) rfl
theorem q1008 : (Jvm.Cond.static ({ cls := "java/lang/Integer", name := "compare", desc := "(II)I" } : Jvm.MethodName)) ∈ lw_all := lw_g (lw_at lw_m4 229 rfl) rfl
theorem q1009 : (Jvm.Cond.code ({ cls := "java/lang/Integer", name := "compare", desc := "(II)I" } : Jvm.MethodName) prog_21_method_40_code (2 : Nat) (Option.some Jvm.ClassFile.FieldType.int)) ∈ lw_all := lw_g (lw_at lw_m4 230 rfl) rfl
theorem q1098 : (Jvm.Cond.static ({ cls := "java/lang/Integer", name := "numberOfLeadingZeros", desc := "(I)I" } : Jvm.MethodName)) ∈ lw_all := lw_g (lw_at lw_m5 79 rfl) rfl
theorem q1099 : (Jvm.Cond.code ({ cls := "java/lang/Integer", name := "numberOfLeadingZeros", desc := "(I)I" } : Jvm.MethodName) prog_21_method_47_code (2 : Nat) (Option.some Jvm.ClassFile.FieldType.int)) ∈ lw_all := lw_g (lw_at lw_m5 80 rfl) rfl
theorem q1100 : (Jvm.Cond.constant "java/lang/Integer" (264 : Nat) (65536 : Int32)) ∈ lw_all := lw_g (lw_at lw_m5 81 rfl) rfl
theorem q1107 : (Jvm.Cond.static ({ cls := "java/lang/Integer", name := "numberOfTrailingZeros", desc := "(I)I" } : Jvm.MethodName)) ∈ lw_all := lw_g (lw_at lw_m5 88 rfl) rfl
theorem q1108 : (Jvm.Cond.code ({ cls := "java/lang/Integer", name := "numberOfTrailingZeros", desc := "(I)I" } : Jvm.MethodName) prog_21_method_48_code (2 : Nat) (Option.some Jvm.ClassFile.FieldType.int)) ∈ lw_all := lw_g (lw_at lw_m5 89 rfl) rfl
theorem q1296 : (Jvm.Cond.instanceMethod ({ cls := "java/lang/Integer", name := "intValue", desc := "()I" } : Jvm.MethodName)) ∈ lw_all := lw_g (lw_at lw_m6 37 rfl) rfl
theorem q1297 : (Jvm.Cond.selects "java/lang/Integer" ({ cls := "java/lang/Integer", name := "intValue", desc := "()I" } : Jvm.MethodName) ({ cls := "java/lang/Integer", name := "intValue", desc := "()I" } : Jvm.MethodName)) ∈ lw_all := lw_g (lw_at lw_m6 38 rfl) rfl
theorem q1298 : (Jvm.Cond.code ({ cls := "java/lang/Integer", name := "intValue", desc := "()I" } : Jvm.MethodName) prog_21_method_27_code (1 : Nat) (Option.some Jvm.ClassFile.FieldType.int)) ∈ lw_all := lw_g (lw_at lw_m6 39 rfl) rfl
theorem q2299 : (Jvm.Cond.castable "java/lang/Integer" "java/lang/Object") ∈ lw_tbl := lw_at lw_m10 80 rfl
theorem in_J20 : ∀ w ∈ wsJ200, w ∈ lw_all := lw_in wsJ200 [952] (by decide +kernel) (by decide +kernel)
/-! ExchangeText$Reader -/
def RX3 : String := "ExchangeText$Reader"
def TX3 : u_T := fun k => match k with
  | 0 => ("ExchangeText$Reader", "text", "Ljava/lang/StringBuilder;", true)
  | _ => ("ExchangeText$Reader", "at", "I", false)
def tyX3 : Nat → FieldType := fun k => match k with
  | 0 => .object "java/lang/StringBuilder"
  | _ => .int
abbrev wsX30 : List Cond := u_ws RX3 TX3 2
theorem nmX3 : ∀ a, a < 2 → ∀ b, b < 2 → a ≠ b → (TX3 a).2.1 ≠ (TX3 b).2.1 := by decide +kernel
theorem tyX3_ok : ∀ k, k < 2 → parseFieldDescriptor (TX3 k).2.2.1 = some (tyX3 k) := by decide +kernel
abbrev cX3_init : ByteArray := prog_5_method_1_code
def yX3_init : MethodName := ⟨RX3, "<init>", "(Ljava/lang/StringBuilder;)V"⟩
abbrev cX3_isOver : ByteArray := prog_5_method_4_code
def yX3_isOver : MethodName := ⟨RX3, "isOver", "()Z"⟩
abbrev cX3_here : ByteArray := prog_5_method_3_code
def yX3_here : MethodName := ⟨RX3, "here", "()C"⟩
abbrev cX3_skip : ByteArray := prog_5_method_2_code
def yX3_skip : MethodName := ⟨RX3, "skip", "()V"⟩
abbrev cX3_readKind : ByteArray := prog_5_method_18_code
def yX3_readKind : MethodName := ⟨RX3, "readKind", "(Ljava/util/ArrayList;)LExchangeText$Kind;"⟩
abbrev cX3_name : ByteArray := prog_5_method_11_code
def yX3_name : MethodName := ⟨RX3, "name", "()Ljava/lang/String;"⟩
abbrev cX3_isLetter : ByteArray := prog_5_method_9_code
def yX3_isLetter : MethodName := ⟨RX3, "isLetter", "(C)Z"⟩
abbrev cX3_want : ByteArray := prog_5_method_7_code
def yX3_want : MethodName := ⟨RX3, "want", "(Z)V"⟩
abbrev cX3_want_2 : ByteArray := prog_5_method_6_code
def yX3_want_2 : MethodName := ⟨RX3, "want", "(ZI)V"⟩
abbrev cX3_take : ByteArray := prog_5_method_8_code
def yX3_take : MethodName := ⟨RX3, "take", "(C)V"⟩
abbrev cX3_is : ByteArray := prog_5_method_5_code
def yX3_is : MethodName := ⟨RX3, "is", "(C)Z"⟩
abbrev cX3_readLine : ByteArray := prog_5_method_17_code
def yX3_readLine : MethodName := ⟨RX3, "readLine", "(Ljava/util/TreeMap;)LExchangeText$Line;"⟩
abbrev cX3_number : ByteArray := prog_5_method_12_code
def yX3_number : MethodName := ⟨RX3, "number", "(IZ)I"⟩
abbrev cX3_isDigit : ByteArray := prog_5_method_10_code
def yX3_isDigit : MethodName := ⟨RX3, "isDigit", "(C)Z"⟩
abbrev cX3_argument : ByteArray := prog_5_method_16_code
def yX3_argument : MethodName := ⟨RX3, "argument", "()LExchangeText$Argument;"⟩
abbrev cX3_text : ByteArray := prog_5_method_14_code
def yX3_text : MethodName := ⟨RX3, "text", "()LExchangeText$Argument;"⟩
abbrev cX3_line : ByteArray := prog_5_method_13_code
def yX3_line : MethodName := ⟨RX3, "line", "()I"⟩
abbrev cX3_list : ByteArray := prog_5_method_15_code
def yX3_list : MethodName := ⟨RX3, "list", "()LExchangeText$Argument;"⟩
theorem q84 : (Jvm.Cond.initialized "ExchangeText$Reader") ∈ lw_all := lw_g (lw_at lw_m1 25 rfl) rfl
theorem q228 : (Jvm.Cond.instantiable "ExchangeText$Reader" (2 : Nat)) ∈ lw_all := lw_g (lw_at lw_m1 169 rfl) rfl
theorem q230 : (Jvm.Cond.instanceMethod ({ cls := "ExchangeText$Reader", name := "<init>", desc := "(Ljava/lang/StringBuilder;)V" } : Jvm.MethodName)) ∈ lw_all := lw_g (lw_at lw_m1 171 rfl) rfl
theorem q231 : (Jvm.Cond.code ({ cls := "ExchangeText$Reader", name := "<init>", desc := "(Ljava/lang/StringBuilder;)V" } : Jvm.MethodName) prog_5_method_1_code (2 : Nat) (Option.none : Option Jvm.ClassFile.FieldType)) ∈ lw_all := lw_g (lw_at lw_m1 172 rfl) rfl
theorem q232 : (Jvm.Cond.methodLink "ExchangeText$Reader" (3 : Nat) ({ cls := "java/lang/Object", name := "<init>", desc := "()V" } : Jvm.MethodName)) ∈ lw_all := lw_g (lw_at lw_m1 173 rfl) rfl
theorem q233 : (Jvm.Cond.fieldLink "ExchangeText$Reader" (9 : Nat) "ExchangeText$Reader" "text" "Ljava/lang/StringBuilder;") ∈ lw_all := lw_g (lw_at lw_m1 174 rfl) rfl
theorem q234 : (Jvm.Cond.fieldLink "ExchangeText$Reader" (15 : Nat) "ExchangeText$Reader" "at" "I") ∈ lw_all := lw_g (lw_at lw_m1 175 rfl) rfl
theorem q235 : (Jvm.Cond.laysFinal "ExchangeText$Reader" "ExchangeText$Reader" "text" "Ljava/lang/StringBuilder;") ∈ lw_all := lw_g (lw_at lw_m1 176 rfl) rfl
theorem q236 : (Jvm.Cond.soleField "ExchangeText$Reader" "text") ∈ lw_all := lw_g (lw_at lw_m1 177 rfl) rfl
theorem q237 : (Jvm.Cond.lays "ExchangeText$Reader" "ExchangeText$Reader" "at" "I") ∈ lw_all := lw_g (lw_at lw_m1 178 rfl) rfl
theorem q238 : (Jvm.Cond.soleField "ExchangeText$Reader" "at") ∈ lw_all := lw_g (lw_at lw_m1 179 rfl) rfl
theorem q239 : (Jvm.Cond.superclass "ExchangeText$Reader" "java/lang/Object") ∈ lw_all := lw_g (lw_at lw_m1 180 rfl) rfl
theorem q241 : (Jvm.Cond.instanceMethod ({ cls := "ExchangeText$Reader", name := "isOver", desc := "()Z" } : Jvm.MethodName)) ∈ lw_all := lw_g (lw_at lw_m1 182 rfl) rfl
theorem q242 : (Jvm.Cond.selects "ExchangeText$Reader" ({ cls := "ExchangeText$Reader", name := "isOver", desc := "()Z" } : Jvm.MethodName) ({ cls := "ExchangeText$Reader", name := "isOver", desc := "()Z" } : Jvm.MethodName)) ∈ lw_all := lw_g (lw_at lw_m1 183 rfl) rfl
theorem q243 : (Jvm.Cond.code ({ cls := "ExchangeText$Reader", name := "isOver", desc := "()Z" } : Jvm.MethodName) prog_5_method_4_code (1 : Nat) (Option.some Jvm.ClassFile.FieldType.boolean)) ∈ lw_all := lw_g (lw_at lw_m1 184 rfl) rfl
theorem q244 : (Jvm.Cond.methodLink "ExchangeText$Reader" (32 : Nat) ({ cls := "ExchangeText$Reader", name := "here", desc := "()C" } : Jvm.MethodName)) ∈ lw_all := lw_g (lw_at lw_m1 185 rfl) rfl
theorem q245 : (Jvm.Cond.privateMethod ({ cls := "ExchangeText$Reader", name := "here", desc := "()C" } : Jvm.MethodName)) ∈ lw_tbl := lw_at lw_m1 186 rfl
theorem q246 : (Jvm.Cond.instanceMethod ({ cls := "ExchangeText$Reader", name := "here", desc := "()C" } : Jvm.MethodName)) ∈ lw_all := lw_g (lw_at lw_m1 187 rfl) rfl
theorem q247 : (Jvm.Cond.code ({ cls := "ExchangeText$Reader", name := "here", desc := "()C" } : Jvm.MethodName) prog_5_method_3_code (1 : Nat) (Option.some Jvm.ClassFile.FieldType.char)) ∈ lw_all := lw_g (lw_at lw_m1 188 rfl) rfl
theorem q248 : (Jvm.Cond.methodLink "ExchangeText$Reader" (29 : Nat) ({ cls := "ExchangeText$Reader", name := "skip", desc := "()V" } : Jvm.MethodName)) ∈ lw_all := lw_g (lw_at lw_m1 189 rfl) rfl
theorem q249 : (Jvm.Cond.privateMethod ({ cls := "ExchangeText$Reader", name := "skip", desc := "()V" } : Jvm.MethodName)) ∈ lw_tbl := lw_at lw_m1 190 rfl
theorem q250 : (Jvm.Cond.instanceMethod ({ cls := "ExchangeText$Reader", name := "skip", desc := "()V" } : Jvm.MethodName)) ∈ lw_all := lw_g (lw_at lw_m1 191 rfl) rfl
theorem q251 : (Jvm.Cond.code ({ cls := "ExchangeText$Reader", name := "skip", desc := "()V" } : Jvm.MethodName) prog_5_method_2_code (1 : Nat) (Option.none : Option Jvm.ClassFile.FieldType)) ∈ lw_all := lw_g (lw_at lw_m1 192 rfl) rfl
theorem q252 : (Jvm.Cond.methodLink "ExchangeText$Reader" (19 : Nat) ({ cls := "java/lang/StringBuilder", name := "length", desc := "()I" } : Jvm.MethodName)) ∈ lw_all := lw_g (lw_at lw_m1 193 rfl) rfl
theorem q259 : (Jvm.Cond.methodLink "ExchangeText$Reader" (25 : Nat) ({ cls := "java/lang/StringBuilder", name := "charAt", desc := "(I)C" } : Jvm.MethodName)) ∈ lw_all := lw_g (lw_at lw_m1 200 rfl) rfl
theorem q290 : (Jvm.Cond.instanceMethod ({ cls := "ExchangeText$Reader", name := "readKind", desc := "(Ljava/util/ArrayList;)LExchangeText$Kind;" } : Jvm.MethodName)) ∈ lw_all := lw_g (lw_at lw_m1 231 rfl) rfl
theorem q291 : (Jvm.Cond.selects "ExchangeText$Reader" ({ cls := "ExchangeText$Reader", name := "readKind", desc := "(Ljava/util/ArrayList;)LExchangeText$Kind;" } : Jvm.MethodName) ({ cls := "ExchangeText$Reader", name := "readKind", desc := "(Ljava/util/ArrayList;)LExchangeText$Kind;" } : Jvm.MethodName)) ∈ lw_all := lw_g (lw_at lw_m1 232 rfl) rfl
theorem q292 : (Jvm.Cond.code ({ cls := "ExchangeText$Reader", name := "readKind", desc := "(Ljava/util/ArrayList;)LExchangeText$Kind;" } : Jvm.MethodName) prog_5_method_18_code (7 : Nat) (Option.some (Jvm.ClassFile.FieldType.object "ExchangeText$Kind"))) ∈ lw_all := lw_g (lw_at lw_m1 233 rfl) rfl
theorem q293 : (Jvm.Cond.classLink "ExchangeText$Reader" (167 : Nat) "ExchangeText$Kind") ∈ lw_all := lw_g (lw_at lw_m1 234 rfl) rfl
theorem q295 : (Jvm.Cond.methodLink "ExchangeText$Reader" (140 : Nat) ({ cls := "ExchangeText$Reader", name := "name", desc := "()Ljava/lang/String;" } : Jvm.MethodName)) ∈ lw_all := lw_g (lw_at lw_m1 236 rfl) rfl
theorem q296 : (Jvm.Cond.instanceMethod ({ cls := "ExchangeText$Reader", name := "name", desc := "()Ljava/lang/String;" } : Jvm.MethodName)) ∈ lw_all := lw_g (lw_at lw_m1 237 rfl) rfl
theorem q297 : (Jvm.Cond.selects "ExchangeText$Reader" ({ cls := "ExchangeText$Reader", name := "name", desc := "()Ljava/lang/String;" } : Jvm.MethodName) ({ cls := "ExchangeText$Reader", name := "name", desc := "()Ljava/lang/String;" } : Jvm.MethodName)) ∈ lw_all := lw_g (lw_at lw_m1 238 rfl) rfl
theorem q298 : (Jvm.Cond.code ({ cls := "ExchangeText$Reader", name := "name", desc := "()Ljava/lang/String;" } : Jvm.MethodName) prog_5_method_11_code (2 : Nat) (Option.some (Jvm.ClassFile.FieldType.object "java/lang/String"))) ∈ lw_all := lw_g (lw_at lw_m1 239 rfl) rfl
theorem q299 : (Jvm.Cond.methodLink "ExchangeText$Reader" (52 : Nat) ({ cls := "ExchangeText$Reader", name := "isLetter", desc := "(C)Z" } : Jvm.MethodName)) ∈ lw_all := lw_g (lw_at lw_m2 0 rfl) rfl
theorem q300 : (Jvm.Cond.static ({ cls := "ExchangeText$Reader", name := "isLetter", desc := "(C)Z" } : Jvm.MethodName)) ∈ lw_all := lw_g (lw_at lw_m2 1 rfl) rfl
theorem q301 : (Jvm.Cond.code ({ cls := "ExchangeText$Reader", name := "isLetter", desc := "(C)Z" } : Jvm.MethodName) prog_5_method_9_code (1 : Nat) (Option.some Jvm.ClassFile.FieldType.boolean)) ∈ lw_all := lw_g (lw_at lw_m2 2 rfl) rfl
theorem q302 : (Jvm.Cond.methodLink "ExchangeText$Reader" (49 : Nat) ({ cls := "ExchangeText$Reader", name := "want", desc := "(Z)V" } : Jvm.MethodName)) ∈ lw_all := lw_g (lw_at lw_m2 3 rfl) rfl
theorem q303 : (Jvm.Cond.instanceMethod ({ cls := "ExchangeText$Reader", name := "want", desc := "(Z)V" } : Jvm.MethodName)) ∈ lw_all := lw_g (lw_at lw_m2 4 rfl) rfl
theorem q304 : (Jvm.Cond.selects "ExchangeText$Reader" ({ cls := "ExchangeText$Reader", name := "want", desc := "(Z)V" } : Jvm.MethodName) ({ cls := "ExchangeText$Reader", name := "want", desc := "(Z)V" } : Jvm.MethodName)) ∈ lw_all := lw_g (lw_at lw_m2 5 rfl) rfl
theorem q305 : (Jvm.Cond.code ({ cls := "ExchangeText$Reader", name := "want", desc := "(Z)V" } : Jvm.MethodName) prog_5_method_7_code (2 : Nat) (Option.none : Option Jvm.ClassFile.FieldType)) ∈ lw_all := lw_g (lw_at lw_m2 6 rfl) rfl
theorem q306 : (Jvm.Cond.methodLink "ExchangeText$Reader" (41 : Nat) ({ cls := "ExchangeText$Reader", name := "want", desc := "(ZI)V" } : Jvm.MethodName)) ∈ lw_all := lw_g (lw_at lw_m2 7 rfl) rfl
theorem q307 : (Jvm.Cond.instanceMethod ({ cls := "ExchangeText$Reader", name := "want", desc := "(ZI)V" } : Jvm.MethodName)) ∈ lw_all := lw_g (lw_at lw_m2 8 rfl) rfl
theorem q308 : (Jvm.Cond.selects "ExchangeText$Reader" ({ cls := "ExchangeText$Reader", name := "want", desc := "(ZI)V" } : Jvm.MethodName) ({ cls := "ExchangeText$Reader", name := "want", desc := "(ZI)V" } : Jvm.MethodName)) ∈ lw_all := lw_g (lw_at lw_m2 9 rfl) rfl
theorem q309 : (Jvm.Cond.code ({ cls := "ExchangeText$Reader", name := "want", desc := "(ZI)V" } : Jvm.MethodName) prog_5_method_6_code (3 : Nat) (Option.none : Option Jvm.ClassFile.FieldType)) ∈ lw_all := lw_g (lw_at lw_m2 10 rfl) rfl
theorem q310 : (Jvm.Cond.classLink "ExchangeText$Reader" (36 : Nat) "ExchangeText$WrongPlace") ∈ lw_all := lw_g (lw_at lw_m2 11 rfl) rfl
theorem q349 : (Jvm.Cond.methodLink "ExchangeText$Reader" (38 : Nat) ({ cls := "ExchangeText$WrongPlace", name := "<init>", desc := "(I)V" } : Jvm.MethodName)) ∈ lw_all := lw_g (lw_at lw_m2 50 rfl) rfl
theorem q376 : (Jvm.Cond.methodLink "ExchangeText$Reader" (55 : Nat) ({ cls := "java/lang/StringBuilder", name := "substring", desc := "(II)Ljava/lang/String;" } : Jvm.MethodName)) ∈ lw_all := lw_g (lw_at lw_m2 77 rfl) rfl
theorem q609 : (Jvm.Cond.methodLink "ExchangeText$Reader" (169 : Nat) ({ cls := "ExchangeText$Kind", name := "<init>", desc := "(Ljava/lang/String;)V" } : Jvm.MethodName)) ∈ lw_all := lw_g (lw_at lw_m3 70 rfl) rfl
theorem q641 : (Jvm.Cond.fieldLink "ExchangeText$Reader" (186 : Nat) "ExchangeText$Kind" "name" "Ljava/lang/String;") ∈ lw_all := lw_g (lw_at lw_m3 102 rfl) rfl
theorem q643 : (Jvm.Cond.fieldLinkNest "ExchangeText$Reader" (213 : Nat) "ExchangeText$Kind" "sorts" "Ljava/util/ArrayList;" "ExchangeText") ∈ lw_tbl := lw_at lw_m3 104 rfl
theorem q645 : (Jvm.Cond.fieldLinkNest "ExchangeText$Reader" (204 : Nat) "ExchangeText$Kind" "free" "Ljava/util/BitSet;" "ExchangeText") ∈ lw_tbl := lw_at lw_m3 106 rfl
theorem q653 : (Jvm.Cond.methodLink "ExchangeText$Reader" (93 : Nat) ({ cls := "java/util/ArrayList", name := "size", desc := "()I" } : Jvm.MethodName)) ∈ lw_all := lw_g (lw_at lw_m3 114 rfl) rfl
theorem q657 : (Jvm.Cond.methodLink "ExchangeText$Reader" (172 : Nat) ({ cls := "java/util/ArrayList", name := "iterator", desc := "()Ljava/util/Iterator;" } : Jvm.MethodName)) ∈ lw_all := lw_g (lw_at lw_m3 118 rfl) rfl
theorem q680 : (Jvm.Cond.interfaceEntry "ExchangeText$Reader" (176 : Nat)) ∈ lw_tbl := lw_at lw_m3 141 rfl
theorem q681 : (Jvm.Cond.methodLink "ExchangeText$Reader" (176 : Nat) ({ cls := "java/util/Iterator", name := "hasNext", desc := "()Z" } : Jvm.MethodName)) ∈ lw_all := lw_g (lw_at lw_m3 142 rfl) rfl
theorem q696 : (Jvm.Cond.interfaceEntry "ExchangeText$Reader" (182 : Nat)) ∈ lw_tbl := lw_at lw_m3 157 rfl
theorem q697 : (Jvm.Cond.methodLink "ExchangeText$Reader" (182 : Nat) ({ cls := "java/util/Iterator", name := "next", desc := "()Ljava/lang/Object;" } : Jvm.MethodName)) ∈ lw_all := lw_g (lw_at lw_m3 158 rfl) rfl
theorem q727 : (Jvm.Cond.methodLink "ExchangeText$Reader" (189 : Nat) ({ cls := "java/lang/String", name := "equals", desc := "(Ljava/lang/Object;)Z" } : Jvm.MethodName)) ∈ lw_all := lw_g (lw_at lw_m3 188 rfl) rfl
theorem q735 : (Jvm.Cond.methodLink "ExchangeText$Reader" (62 : Nat) ({ cls := "ExchangeText$Reader", name := "take", desc := "(C)V" } : Jvm.MethodName)) ∈ lw_all := lw_g (lw_at lw_m3 196 rfl) rfl
theorem q736 : (Jvm.Cond.instanceMethod ({ cls := "ExchangeText$Reader", name := "take", desc := "(C)V" } : Jvm.MethodName)) ∈ lw_all := lw_g (lw_at lw_m3 197 rfl) rfl
theorem q737 : (Jvm.Cond.selects "ExchangeText$Reader" ({ cls := "ExchangeText$Reader", name := "take", desc := "(C)V" } : Jvm.MethodName) ({ cls := "ExchangeText$Reader", name := "take", desc := "(C)V" } : Jvm.MethodName)) ∈ lw_all := lw_g (lw_at lw_m3 198 rfl) rfl
theorem q738 : (Jvm.Cond.code ({ cls := "ExchangeText$Reader", name := "take", desc := "(C)V" } : Jvm.MethodName) prog_5_method_8_code (2 : Nat) (Option.none : Option Jvm.ClassFile.FieldType)) ∈ lw_all := lw_g (lw_at lw_m3 199 rfl) rfl
theorem q739 : (Jvm.Cond.methodLink "ExchangeText$Reader" (45 : Nat) ({ cls := "ExchangeText$Reader", name := "is", desc := "(C)Z" } : Jvm.MethodName)) ∈ lw_all := lw_g (lw_at lw_m3 200 rfl) rfl
theorem q740 : (Jvm.Cond.instanceMethod ({ cls := "ExchangeText$Reader", name := "is", desc := "(C)Z" } : Jvm.MethodName)) ∈ lw_all := lw_g (lw_at lw_m3 201 rfl) rfl
theorem q741 : (Jvm.Cond.selects "ExchangeText$Reader" ({ cls := "ExchangeText$Reader", name := "is", desc := "(C)Z" } : Jvm.MethodName) ({ cls := "ExchangeText$Reader", name := "is", desc := "(C)Z" } : Jvm.MethodName)) ∈ lw_all := lw_g (lw_at lw_m3 202 rfl) rfl
theorem q742 : (Jvm.Cond.code ({ cls := "ExchangeText$Reader", name := "is", desc := "(C)Z" } : Jvm.MethodName) prog_5_method_5_code (2 : Nat) (Option.some Jvm.ClassFile.FieldType.boolean)) ∈ lw_all := lw_g (lw_at lw_m3 203 rfl) rfl
theorem q743 : (Jvm.Cond.methodLink "ExchangeText$Reader" (194 : Nat) ({ cls := "ExchangeText$Reader", name := "isOver", desc := "()Z" } : Jvm.MethodName)) ∈ lw_all := lw_g (lw_at lw_m3 204 rfl) rfl
theorem q744 : (Jvm.Cond.stringRef "ExchangeText$Reader" (197 : Nat) "ITRLME") ∈ lw_tbl := lw_at lw_m3 205 rfl
theorem q745 : (Jvm.Cond.methodLink "ExchangeText$Reader" (199 : Nat) ({ cls := "java/lang/String", name := "indexOf", desc := "(I)I" } : Jvm.MethodName)) ∈ lw_all := lw_g (lw_at lw_m3 206 rfl) rfl
theorem q795 : (Jvm.Cond.methodLink "ExchangeText$Reader" (203 : Nat) ({ cls := "ExchangeText$Kind", name := "size", desc := "()I" } : Jvm.MethodName)) ∈ lw_all := lw_g (lw_at lw_m4 16 rfl) rfl
theorem q800 : (Jvm.Cond.methodLink "ExchangeText$Reader" (208 : Nat) ({ cls := "java/util/BitSet", name := "set", desc := "(I)V" } : Jvm.MethodName)) ∈ lw_all := lw_g (lw_at lw_m4 21 rfl) rfl
theorem q827 : (Jvm.Cond.methodLink "ExchangeText$Reader" (216 : Nat) ({ cls := "ExchangeText$Sort", name := "values", desc := "()[LExchangeText$Sort;" } : Jvm.MethodName)) ∈ lw_all := lw_g (lw_at lw_m4 48 rfl) rfl
theorem q838 : (Jvm.Cond.methodLink "ExchangeText$Reader" (105 : Nat) ({ cls := "java/util/ArrayList", name := "add", desc := "(Ljava/lang/Object;)Z" } : Jvm.MethodName)) ∈ lw_all := lw_g (lw_at lw_m4 59 rfl) rfl
theorem q865 : (Jvm.Cond.selects "ExchangeText$Reader" ({ cls := "java/lang/Object", name := "getClass", desc := "()Ljava/lang/Class;" } : Jvm.MethodName) ({ cls := "java/lang/Object", name := "getClass", desc := "()Ljava/lang/Class;" } : Jvm.MethodName)) ∈ lw_all := lw_g (lw_at lw_m4 86 rfl) rfl
theorem q921 : (Jvm.Cond.instanceMethod ({ cls := "ExchangeText$Reader", name := "readLine", desc := "(Ljava/util/TreeMap;)LExchangeText$Line;" } : Jvm.MethodName)) ∈ lw_all := lw_g (lw_at lw_m4 142 rfl) rfl
theorem q922 : (Jvm.Cond.selects "ExchangeText$Reader" ({ cls := "ExchangeText$Reader", name := "readLine", desc := "(Ljava/util/TreeMap;)LExchangeText$Line;" } : Jvm.MethodName) ({ cls := "ExchangeText$Reader", name := "readLine", desc := "(Ljava/util/TreeMap;)LExchangeText$Line;" } : Jvm.MethodName)) ∈ lw_all := lw_g (lw_at lw_m4 143 rfl) rfl
theorem q923 : (Jvm.Cond.code ({ cls := "ExchangeText$Reader", name := "readLine", desc := "(Ljava/util/TreeMap;)LExchangeText$Line;" } : Jvm.MethodName) prog_5_method_17_code (6 : Nat) (Option.some (Jvm.ClassFile.FieldType.object "ExchangeText$Line"))) ∈ lw_all := lw_g (lw_at lw_m4 144 rfl) rfl
theorem q924 : (Jvm.Cond.methodLink "ExchangeText$Reader" (149 : Nat) ({ cls := "java/util/TreeMap", name := "size", desc := "()I" } : Jvm.MethodName)) ∈ lw_all := lw_g (lw_at lw_m4 145 rfl) rfl
theorem q928 : (Jvm.Cond.methodLink "ExchangeText$Reader" (66 : Nat) ({ cls := "ExchangeText$Reader", name := "number", desc := "(IZ)I" } : Jvm.MethodName)) ∈ lw_all := lw_g (lw_at lw_m4 149 rfl) rfl
theorem q929 : (Jvm.Cond.instanceMethod ({ cls := "ExchangeText$Reader", name := "number", desc := "(IZ)I" } : Jvm.MethodName)) ∈ lw_all := lw_g (lw_at lw_m4 150 rfl) rfl
theorem q930 : (Jvm.Cond.selects "ExchangeText$Reader" ({ cls := "ExchangeText$Reader", name := "number", desc := "(IZ)I" } : Jvm.MethodName) ({ cls := "ExchangeText$Reader", name := "number", desc := "(IZ)I" } : Jvm.MethodName)) ∈ lw_all := lw_g (lw_at lw_m4 151 rfl) rfl
theorem q931 : (Jvm.Cond.code ({ cls := "ExchangeText$Reader", name := "number", desc := "(IZ)I" } : Jvm.MethodName) prog_5_method_12_code (7 : Nat) (Option.some Jvm.ClassFile.FieldType.int)) ∈ lw_all := lw_g (lw_at lw_m4 152 rfl) rfl
theorem q932 : (Jvm.Cond.methodLink "ExchangeText$Reader" (59 : Nat) ({ cls := "ExchangeText$Reader", name := "isDigit", desc := "(C)Z" } : Jvm.MethodName)) ∈ lw_all := lw_g (lw_at lw_m4 153 rfl) rfl
theorem q933 : (Jvm.Cond.static ({ cls := "ExchangeText$Reader", name := "isDigit", desc := "(C)Z" } : Jvm.MethodName)) ∈ lw_all := lw_g (lw_at lw_m4 154 rfl) rfl
theorem q934 : (Jvm.Cond.code ({ cls := "ExchangeText$Reader", name := "isDigit", desc := "(C)Z" } : Jvm.MethodName) prog_5_method_10_code (1 : Nat) (Option.some Jvm.ClassFile.FieldType.boolean)) ∈ lw_all := lw_g (lw_at lw_m4 155 rfl) rfl
theorem q935 : (Jvm.Cond.methodLink "ExchangeText$Reader" (99 : Nat) ({ cls := "java/lang/Integer", name := "valueOf", desc := "(I)Ljava/lang/Integer;" } : Jvm.MethodName)) ∈ lw_all := lw_g (lw_at lw_m4 156 rfl) rfl
theorem q955 : (Jvm.Cond.methodLink "ExchangeText$Reader" (152 : Nat) ({ cls := "java/util/TreeMap", name := "containsKey", desc := "(Ljava/lang/Object;)Z" } : Jvm.MethodName)) ∈ lw_all := lw_g (lw_at lw_m4 176 rfl) rfl
theorem q1186 : (Jvm.Cond.classLink "ExchangeText$Reader" (155 : Nat) "ExchangeText$Line") ∈ lw_all := lw_g (lw_at lw_m5 167 rfl) rfl
theorem q1188 : (Jvm.Cond.methodLink "ExchangeText$Reader" (157 : Nat) ({ cls := "ExchangeText$Line", name := "<init>", desc := "(ILjava/lang/String;)V" } : Jvm.MethodName)) ∈ lw_all := lw_g (lw_at lw_m5 169 rfl) rfl
theorem q1200 : (Jvm.Cond.fieldLink "ExchangeText$Reader" (160 : Nat) "ExchangeText$Line" "arguments" "Ljava/util/ArrayList;") ∈ lw_all := lw_g (lw_at lw_m5 181 rfl) rfl
theorem q1208 : (Jvm.Cond.methodLink "ExchangeText$Reader" (164 : Nat) ({ cls := "ExchangeText$Reader", name := "argument", desc := "()LExchangeText$Argument;" } : Jvm.MethodName)) ∈ lw_all := lw_g (lw_at lw_m5 189 rfl) rfl
theorem q1209 : (Jvm.Cond.privateMethod ({ cls := "ExchangeText$Reader", name := "argument", desc := "()LExchangeText$Argument;" } : Jvm.MethodName)) ∈ lw_tbl := lw_at lw_m5 190 rfl
theorem q1210 : (Jvm.Cond.instanceMethod ({ cls := "ExchangeText$Reader", name := "argument", desc := "()LExchangeText$Argument;" } : Jvm.MethodName)) ∈ lw_all := lw_g (lw_at lw_m5 191 rfl) rfl
theorem q1211 : (Jvm.Cond.code ({ cls := "ExchangeText$Reader", name := "argument", desc := "()LExchangeText$Argument;" } : Jvm.MethodName) prog_5_method_16_code (2 : Nat) (Option.some (Jvm.ClassFile.FieldType.object "ExchangeText$Argument"))) ∈ lw_all := lw_g (lw_at lw_m5 192 rfl) rfl
theorem q1212 : (Jvm.Cond.methodLink "ExchangeText$Reader" (124 : Nat) ({ cls := "ExchangeText$Reader", name := "text", desc := "()LExchangeText$Argument;" } : Jvm.MethodName)) ∈ lw_all := lw_g (lw_at lw_m5 193 rfl) rfl
theorem q1213 : (Jvm.Cond.privateMethod ({ cls := "ExchangeText$Reader", name := "text", desc := "()LExchangeText$Argument;" } : Jvm.MethodName)) ∈ lw_tbl := lw_at lw_m5 194 rfl
theorem q1214 : (Jvm.Cond.instanceMethod ({ cls := "ExchangeText$Reader", name := "text", desc := "()LExchangeText$Argument;" } : Jvm.MethodName)) ∈ lw_all := lw_g (lw_at lw_m5 195 rfl) rfl
theorem q1215 : (Jvm.Cond.code ({ cls := "ExchangeText$Reader", name := "text", desc := "()LExchangeText$Argument;" } : Jvm.MethodName) prog_5_method_14_code (6 : Nat) (Option.some (Jvm.ClassFile.FieldType.object "ExchangeText$Argument"))) ∈ lw_all := lw_g (lw_at lw_m5 196 rfl) rfl
theorem q1216 : (Jvm.Cond.classLink "ExchangeText$Reader" (20 : Nat) "java/lang/StringBuilder") ∈ lw_all := lw_g (lw_at lw_m5 197 rfl) rfl
theorem q1217 : (Jvm.Cond.methodLink "ExchangeText$Reader" (70 : Nat) ({ cls := "java/lang/StringBuilder", name := "<init>", desc := "()V" } : Jvm.MethodName)) ∈ lw_all := lw_g (lw_at lw_m5 198 rfl) rfl
theorem q1218 : (Jvm.Cond.methodLink "ExchangeText$Reader" (71 : Nat) ({ cls := "java/lang/StringBuilder", name := "append", desc := "(C)Ljava/lang/StringBuilder;" } : Jvm.MethodName)) ∈ lw_all := lw_g (lw_at lw_m5 199 rfl) rfl
theorem q1235 : (Jvm.Cond.classLink "ExchangeText$Reader" (75 : Nat) "ExchangeText$Argument") ∈ lw_all := lw_g (lw_at lw_m5 216 rfl) rfl
theorem q1237 : (Jvm.Cond.fieldLink "ExchangeText$Reader" (77 : Nat) "ExchangeText$Sort" "TEXT" "LExchangeText$Sort;") ∈ lw_all := lw_g (lw_at lw_m5 218 rfl) rfl
theorem q1239 : (Jvm.Cond.methodLink "ExchangeText$Reader" (83 : Nat) ({ cls := "java/lang/StringBuilder", name := "toString", desc := "()Ljava/lang/String;" } : Jvm.MethodName)) ∈ lw_all := lw_g (lw_at lw_m5 220 rfl) rfl
theorem q1240 : (Jvm.Cond.methodLinkNest "ExchangeText$Reader" (87 : Nat) ({ cls := "ExchangeText$Argument", name := "<init>", desc := "(LExchangeText$Sort;Ljava/lang/String;[I)V" } : Jvm.MethodName) "ExchangeText") ∈ lw_tbl := lw_at lw_m5 221 rfl
theorem q1264 : (Jvm.Cond.fieldLink "ExchangeText$Reader" (127 : Nat) "ExchangeText$Sort" "REFERENCE" "LExchangeText$Sort;") ∈ lw_all := lw_g (lw_at lw_m6 5 rfl) rfl
theorem q1266 : (Jvm.Cond.methodLink "ExchangeText$Reader" (96 : Nat) ({ cls := "ExchangeText$Reader", name := "line", desc := "()I" } : Jvm.MethodName)) ∈ lw_all := lw_g (lw_at lw_m6 7 rfl) rfl
theorem q1267 : (Jvm.Cond.instanceMethod ({ cls := "ExchangeText$Reader", name := "line", desc := "()I" } : Jvm.MethodName)) ∈ lw_all := lw_g (lw_at lw_m6 8 rfl) rfl
theorem q1268 : (Jvm.Cond.selects "ExchangeText$Reader" ({ cls := "ExchangeText$Reader", name := "line", desc := "()I" } : Jvm.MethodName) ({ cls := "ExchangeText$Reader", name := "line", desc := "()I" } : Jvm.MethodName)) ∈ lw_all := lw_g (lw_at lw_m6 9 rfl) rfl
theorem q1269 : (Jvm.Cond.code ({ cls := "ExchangeText$Reader", name := "line", desc := "()I" } : Jvm.MethodName) prog_5_method_13_code (3 : Nat) (Option.some Jvm.ClassFile.FieldType.int)) ∈ lw_all := lw_g (lw_at lw_m6 10 rfl) rfl
theorem q1270 : (Jvm.Cond.methodLink "ExchangeText$Reader" (130 : Nat) ({ cls := "ExchangeText$Argument", name := "of", desc := "(LExchangeText$Sort;I)LExchangeText$Argument;" } : Jvm.MethodName)) ∈ lw_all := lw_g (lw_at lw_m6 11 rfl) rfl
theorem q1276 : (Jvm.Cond.methodLink "ExchangeText$Reader" (134 : Nat) ({ cls := "ExchangeText$Reader", name := "list", desc := "()LExchangeText$Argument;" } : Jvm.MethodName)) ∈ lw_all := lw_g (lw_at lw_m6 17 rfl) rfl
theorem q1277 : (Jvm.Cond.privateMethod ({ cls := "ExchangeText$Reader", name := "list", desc := "()LExchangeText$Argument;" } : Jvm.MethodName)) ∈ lw_tbl := lw_at lw_m6 18 rfl
theorem q1278 : (Jvm.Cond.instanceMethod ({ cls := "ExchangeText$Reader", name := "list", desc := "()LExchangeText$Argument;" } : Jvm.MethodName)) ∈ lw_all := lw_g (lw_at lw_m6 19 rfl) rfl
theorem q1279 : (Jvm.Cond.code ({ cls := "ExchangeText$Reader", name := "list", desc := "()LExchangeText$Argument;" } : Jvm.MethodName) prog_5_method_15_code (6 : Nat) (Option.some (Jvm.ClassFile.FieldType.object "ExchangeText$Argument"))) ∈ lw_all := lw_g (lw_at lw_m6 20 rfl) rfl
theorem q1280 : (Jvm.Cond.classLink "ExchangeText$Reader" (90 : Nat) "java/util/ArrayList") ∈ lw_all := lw_g (lw_at lw_m6 21 rfl) rfl
theorem q1281 : (Jvm.Cond.methodLink "ExchangeText$Reader" (92 : Nat) ({ cls := "java/util/ArrayList", name := "<init>", desc := "()V" } : Jvm.MethodName)) ∈ lw_all := lw_g (lw_at lw_m6 22 rfl) rfl
theorem q1282 : (Jvm.Cond.methodLink "ExchangeText$Reader" (109 : Nat) ({ cls := "java/util/ArrayList", name := "get", desc := "(I)Ljava/lang/Object;" } : Jvm.MethodName)) ∈ lw_all := lw_g (lw_at lw_m6 23 rfl) rfl
theorem q1294 : (Jvm.Cond.classLink "ExchangeText$Reader" (100 : Nat) "java/lang/Integer") ∈ lw_all := lw_g (lw_at lw_m6 35 rfl) rfl
theorem q1295 : (Jvm.Cond.methodLink "ExchangeText$Reader" (113 : Nat) ({ cls := "java/lang/Integer", name := "intValue", desc := "()I" } : Jvm.MethodName)) ∈ lw_all := lw_g (lw_at lw_m6 36 rfl) rfl
theorem q1299 : (Jvm.Cond.fieldLink "ExchangeText$Reader" (116 : Nat) "ExchangeText$Sort" "REFERENCES" "LExchangeText$Sort;") ∈ lw_all := lw_g (lw_at lw_m6 40 rfl) rfl
theorem q1301 : (Jvm.Cond.fieldLink "ExchangeText$Reader" (119 : Nat) "ExchangeText$Sort" "NUMBERS" "LExchangeText$Sort;") ∈ lw_all := lw_g (lw_at lw_m6 42 rfl) rfl
theorem q1303 : (Jvm.Cond.stringRef "ExchangeText$Reader" (122 : Nat) "") ∈ lw_tbl := lw_at lw_m6 44 rfl
theorem q1304 : (Jvm.Cond.fieldLink "ExchangeText$Reader" (137 : Nat) "ExchangeText$Sort" "NOTHING" "LExchangeText$Sort;") ∈ lw_all := lw_g (lw_at lw_m6 45 rfl) rfl
theorem q1306 : (Jvm.Cond.fieldLink "ExchangeText$Reader" (143 : Nat) "ExchangeText$Sort" "WORD" "LExchangeText$Sort;") ∈ lw_all := lw_g (lw_at lw_m6 47 rfl) rfl
theorem q1308 : (Jvm.Cond.fieldLink "ExchangeText$Reader" (146 : Nat) "ExchangeText$Sort" "NUMBER" "LExchangeText$Sort;") ∈ lw_all := lw_g (lw_at lw_m6 49 rfl) rfl
theorem q2294 : (Jvm.Cond.castable "ExchangeText$Reader" "java/lang/Object") ∈ lw_tbl := lw_at lw_m10 75 rfl
theorem in_X3 : ∀ w ∈ wsX30, w ∈ lw_all := lw_in wsX30 [235, 237] (by decide +kernel) (by decide +kernel)
/-! ExchangeText$Kind -/
def RX4 : String := "ExchangeText$Kind"
def TX4 : u_T := fun k => match k with
  | 0 => ("ExchangeText$Kind", "name", "Ljava/lang/String;", true)
  | 1 => ("ExchangeText$Kind", "sorts", "Ljava/util/ArrayList;", true)
  | _ => ("ExchangeText$Kind", "free", "Ljava/util/BitSet;", true)
def tyX4 : Nat → FieldType := fun k => match k with
  | 0 => .object "java/lang/String"
  | 1 => .object "java/util/ArrayList"
  | _ => .object "java/util/BitSet"
abbrev wsX40 : List Cond := u_ws RX4 TX4 3
theorem nmX4 : ∀ a, a < 3 → ∀ b, b < 3 → a ≠ b → (TX4 a).2.1 ≠ (TX4 b).2.1 := by decide +kernel
theorem tyX4_ok : ∀ k, k < 3 → parseFieldDescriptor (TX4 k).2.2.1 = some (tyX4 k) := by decide +kernel
abbrev cX4_init : ByteArray := prog_3_method_1_code
def yX4_init : MethodName := ⟨RX4, "<init>", "(Ljava/lang/String;)V"⟩
abbrev cX4_size : ByteArray := prog_3_method_2_code
def yX4_size : MethodName := ⟨RX4, "size", "()I"⟩
abbrev cX4_takes : ByteArray := prog_3_method_3_code
def yX4_takes : MethodName := ⟨RX4, "takes", "(ILExchangeText$Argument;)Z"⟩
theorem q85 : (Jvm.Cond.initialized "ExchangeText$Kind") ∈ lw_all := lw_g (lw_at lw_m1 26 rfl) rfl
theorem q294 : (Jvm.Cond.instantiable "ExchangeText$Kind" (3 : Nat)) ∈ lw_all := lw_g (lw_at lw_m1 235 rfl) rfl
theorem q610 : (Jvm.Cond.instanceMethod ({ cls := "ExchangeText$Kind", name := "<init>", desc := "(Ljava/lang/String;)V" } : Jvm.MethodName)) ∈ lw_all := lw_g (lw_at lw_m3 71 rfl) rfl
theorem q611 : (Jvm.Cond.code ({ cls := "ExchangeText$Kind", name := "<init>", desc := "(Ljava/lang/String;)V" } : Jvm.MethodName) prog_3_method_1_code (2 : Nat) (Option.none : Option Jvm.ClassFile.FieldType)) ∈ lw_all := lw_g (lw_at lw_m3 72 rfl) rfl
theorem q612 : (Jvm.Cond.methodLink "ExchangeText$Kind" (1 : Nat) ({ cls := "java/lang/Object", name := "<init>", desc := "()V" } : Jvm.MethodName)) ∈ lw_all := lw_g (lw_at lw_m3 73 rfl) rfl
theorem q613 : (Jvm.Cond.classLink "ExchangeText$Kind" (7 : Nat) "java/util/ArrayList") ∈ lw_all := lw_g (lw_at lw_m3 74 rfl) rfl
theorem q614 : (Jvm.Cond.methodLink "ExchangeText$Kind" (9 : Nat) ({ cls := "java/util/ArrayList", name := "<init>", desc := "()V" } : Jvm.MethodName)) ∈ lw_all := lw_g (lw_at lw_m3 75 rfl) rfl
theorem q615 : (Jvm.Cond.classLink "ExchangeText$Kind" (16 : Nat) "java/util/BitSet") ∈ lw_all := lw_g (lw_at lw_m3 76 rfl) rfl
theorem q617 : (Jvm.Cond.methodLink "ExchangeText$Kind" (18 : Nat) ({ cls := "java/util/BitSet", name := "<init>", desc := "()V" } : Jvm.MethodName)) ∈ lw_all := lw_g (lw_at lw_m3 78 rfl) rfl
theorem q639 : (Jvm.Cond.fieldLink "ExchangeText$Kind" (23 : Nat) "ExchangeText$Kind" "name" "Ljava/lang/String;") ∈ lw_all := lw_g (lw_at lw_m3 100 rfl) rfl
theorem q642 : (Jvm.Cond.fieldLink "ExchangeText$Kind" (10 : Nat) "ExchangeText$Kind" "sorts" "Ljava/util/ArrayList;") ∈ lw_all := lw_g (lw_at lw_m3 103 rfl) rfl
theorem q644 : (Jvm.Cond.fieldLink "ExchangeText$Kind" (19 : Nat) "ExchangeText$Kind" "free" "Ljava/util/BitSet;") ∈ lw_all := lw_g (lw_at lw_m3 105 rfl) rfl
theorem q646 : (Jvm.Cond.laysFinal "ExchangeText$Kind" "ExchangeText$Kind" "name" "Ljava/lang/String;") ∈ lw_all := lw_g (lw_at lw_m3 107 rfl) rfl
theorem q647 : (Jvm.Cond.soleField "ExchangeText$Kind" "name") ∈ lw_all := lw_g (lw_at lw_m3 108 rfl) rfl
theorem q648 : (Jvm.Cond.laysFinal "ExchangeText$Kind" "ExchangeText$Kind" "sorts" "Ljava/util/ArrayList;") ∈ lw_all := lw_g (lw_at lw_m3 109 rfl) rfl
theorem q649 : (Jvm.Cond.soleField "ExchangeText$Kind" "sorts") ∈ lw_all := lw_g (lw_at lw_m3 110 rfl) rfl
theorem q650 : (Jvm.Cond.laysFinal "ExchangeText$Kind" "ExchangeText$Kind" "free" "Ljava/util/BitSet;") ∈ lw_all := lw_g (lw_at lw_m3 111 rfl) rfl
theorem q651 : (Jvm.Cond.soleField "ExchangeText$Kind" "free") ∈ lw_all := lw_g (lw_at lw_m3 112 rfl) rfl
theorem q652 : (Jvm.Cond.superclass "ExchangeText$Kind" "java/lang/Object") ∈ lw_all := lw_g (lw_at lw_m3 113 rfl) rfl
theorem q796 : (Jvm.Cond.instanceMethod ({ cls := "ExchangeText$Kind", name := "size", desc := "()I" } : Jvm.MethodName)) ∈ lw_all := lw_g (lw_at lw_m4 17 rfl) rfl
theorem q797 : (Jvm.Cond.selects "ExchangeText$Kind" ({ cls := "ExchangeText$Kind", name := "size", desc := "()I" } : Jvm.MethodName) ({ cls := "ExchangeText$Kind", name := "size", desc := "()I" } : Jvm.MethodName)) ∈ lw_all := lw_g (lw_at lw_m4 18 rfl) rfl
theorem q798 : (Jvm.Cond.code ({ cls := "ExchangeText$Kind", name := "size", desc := "()I" } : Jvm.MethodName) prog_3_method_2_code (1 : Nat) (Option.some Jvm.ClassFile.FieldType.int)) ∈ lw_all := lw_g (lw_at lw_m4 19 rfl) rfl
theorem q799 : (Jvm.Cond.methodLink "ExchangeText$Kind" (27 : Nat) ({ cls := "java/util/ArrayList", name := "size", desc := "()I" } : Jvm.MethodName)) ∈ lw_all := lw_g (lw_at lw_m4 20 rfl) rfl
theorem q863 : (Jvm.Cond.selects "ExchangeText$Kind" ({ cls := "java/lang/Object", name := "getClass", desc := "()Ljava/lang/Class;" } : Jvm.MethodName) ({ cls := "java/lang/Object", name := "getClass", desc := "()Ljava/lang/Class;" } : Jvm.MethodName)) ∈ lw_all := lw_g (lw_at lw_m4 84 rfl) rfl
theorem q1248 : (Jvm.Cond.fieldLinkNest "ExchangeText$Kind" (31 : Nat) "ExchangeText$Argument" "sort" "LExchangeText$Sort;" "ExchangeText") ∈ lw_tbl := lw_at lw_m5 229 rfl
theorem q1254 : (Jvm.Cond.fieldLinkNest "ExchangeText$Kind" (49 : Nat) "ExchangeText$Argument" "items" "[I" "ExchangeText") ∈ lw_tbl := lw_at lw_m5 235 rfl
theorem q1847 : (Jvm.Cond.instanceMethod ({ cls := "ExchangeText$Kind", name := "takes", desc := "(ILExchangeText$Argument;)Z" } : Jvm.MethodName)) ∈ lw_all := lw_g (lw_at lw_m8 108 rfl) rfl
theorem q1848 : (Jvm.Cond.selects "ExchangeText$Kind" ({ cls := "ExchangeText$Kind", name := "takes", desc := "(ILExchangeText$Argument;)Z" } : Jvm.MethodName) ({ cls := "ExchangeText$Kind", name := "takes", desc := "(ILExchangeText$Argument;)Z" } : Jvm.MethodName)) ∈ lw_all := lw_g (lw_at lw_m8 109 rfl) rfl
theorem q1849 : (Jvm.Cond.code ({ cls := "ExchangeText$Kind", name := "takes", desc := "(ILExchangeText$Argument;)Z" } : Jvm.MethodName) prog_3_method_3_code (4 : Nat) (Option.some Jvm.ClassFile.FieldType.boolean)) ∈ lw_all := lw_g (lw_at lw_m8 110 rfl) rfl
theorem q1850 : (Jvm.Cond.fieldLink "ExchangeText$Kind" (37 : Nat) "ExchangeText$Sort" "NOTHING" "LExchangeText$Sort;") ∈ lw_all := lw_g (lw_at lw_m8 111 rfl) rfl
theorem q1851 : (Jvm.Cond.methodLink "ExchangeText$Kind" (42 : Nat) ({ cls := "java/util/BitSet", name := "get", desc := "(I)Z" } : Jvm.MethodName)) ∈ lw_all := lw_g (lw_at lw_m8 112 rfl) rfl
theorem q1855 : (Jvm.Cond.fieldLink "ExchangeText$Kind" (46 : Nat) "ExchangeText$Sort" "NUMBERS" "LExchangeText$Sort;") ∈ lw_all := lw_g (lw_at lw_m8 116 rfl) rfl
theorem q1856 : (Jvm.Cond.methodLink "ExchangeText$Kind" (53 : Nat) ({ cls := "java/util/ArrayList", name := "get", desc := "(I)Ljava/lang/Object;" } : Jvm.MethodName)) ∈ lw_all := lw_g (lw_at lw_m8 117 rfl) rfl
theorem q1857 : (Jvm.Cond.fieldLink "ExchangeText$Kind" (56 : Nat) "ExchangeText$Sort" "REFERENCES" "LExchangeText$Sort;") ∈ lw_all := lw_g (lw_at lw_m8 118 rfl) rfl
theorem q2295 : (Jvm.Cond.castable "ExchangeText$Kind" "java/lang/Object") ∈ lw_tbl := lw_at lw_m10 76 rfl
theorem in_X4 : ∀ w ∈ wsX40, w ∈ lw_all := lw_in wsX40 [646, 648, 650] (by decide +kernel) (by decide +kernel)
/-! ExchangeText$WrongPlace -/
def RX5 : String := "ExchangeText$WrongPlace"
def TX5 : u_T := fun k => match k with
  | 0 => ("java/lang/Throwable", "cause", "Ljava/lang/Throwable;", false)
  | 1 => ("java/lang/Throwable", "stackTrace", "[Ljava/lang/StackTraceElement;", false)
  | 2 => ("java/lang/Throwable", "suppressedExceptions", "Ljava/util/List;", false)
  | 3 => ("java/lang/Throwable", "detailMessage", "Ljava/lang/String;", false)
  | 4 => ("java/lang/Throwable", "backtrace", "Ljava/lang/Object;", false)
  | 5 => ("java/lang/Throwable", "depth", "I", false)
  | _ => ("ExchangeText$WrongPlace", "place", "I", true)
def tyX5 : Nat → FieldType := fun k => match k with
  | 0 => .object "java/lang/Throwable"
  | 1 => .array (.object "java/lang/StackTraceElement")
  | 2 => .object "java/util/List"
  | 3 => .object "java/lang/String"
  | 4 => .object "java/lang/Object"
  | 5 => .int
  | _ => .int
abbrev wsX50 : List Cond := u_ws RX5 TX5 7
theorem nmX5 : ∀ a, a < 7 → ∀ b, b < 7 → a ≠ b → (TX5 a).2.1 ≠ (TX5 b).2.1 := by decide +kernel
theorem tyX5_ok : ∀ k, k < 7 → parseFieldDescriptor (TX5 k).2.2.1 = some (tyX5 k) := by decide +kernel
abbrev cX5_init : ByteArray := prog_7_method_1_code
def yX5_init : MethodName := ⟨RX5, "<init>", "(I)V"⟩
theorem q86 : (Jvm.Cond.initialized "ExchangeText$WrongPlace") ∈ lw_all := lw_g (lw_at lw_m1 27 rfl) rfl
theorem q311 : (Jvm.Cond.instantiable "ExchangeText$WrongPlace" (7 : Nat)) ∈ lw_all := lw_g (lw_at lw_m2 12 rfl) rfl
theorem q312 : (Jvm.Cond.castable "ExchangeText$WrongPlace" "ExchangeText$WrongPlace") ∈ lw_tbl := lw_at lw_m2 13 rfl
theorem q317 : (Jvm.Cond.selects "ExchangeText$WrongPlace" ({ cls := "java/lang/Throwable", name := "fillInStackTrace", desc := "(I)Ljava/lang/Throwable;" } : Jvm.MethodName) ({ cls := "java/lang/Throwable", name := "fillInStackTrace", desc := "(I)Ljava/lang/Throwable;" } : Jvm.MethodName)) ∈ lw_all := lw_g (lw_at lw_m2 18 rfl) rfl
theorem q318 : (Jvm.Cond.selects "ExchangeText$WrongPlace" ({ cls := "java/lang/Throwable", name := "fillInStackTrace", desc := "()Ljava/lang/Throwable;" } : Jvm.MethodName) ({ cls := "java/lang/Throwable", name := "fillInStackTrace", desc := "()Ljava/lang/Throwable;" } : Jvm.MethodName)) ∈ lw_all := lw_g (lw_at lw_m2 19 rfl) rfl
theorem q319 : (Jvm.Cond.lays "ExchangeText$WrongPlace" "java/lang/Throwable" "cause" "Ljava/lang/Throwable;") ∈ lw_all := lw_g (lw_at lw_m2 20 rfl) rfl
theorem q321 : (Jvm.Cond.lays "ExchangeText$WrongPlace" "java/lang/Throwable" "stackTrace" "[Ljava/lang/StackTraceElement;") ∈ lw_all := lw_g (lw_at lw_m2 22 rfl) rfl
theorem q323 : (Jvm.Cond.lays "ExchangeText$WrongPlace" "java/lang/Throwable" "suppressedExceptions" "Ljava/util/List;") ∈ lw_all := lw_g (lw_at lw_m2 24 rfl) rfl
theorem q325 : (Jvm.Cond.lays "ExchangeText$WrongPlace" "java/lang/Throwable" "detailMessage" "Ljava/lang/String;") ∈ lw_all := lw_g (lw_at lw_m2 26 rfl) rfl
theorem q327 : (Jvm.Cond.lays "ExchangeText$WrongPlace" "java/lang/Throwable" "backtrace" "Ljava/lang/Object;") ∈ lw_all := lw_g (lw_at lw_m2 28 rfl) rfl
theorem q350 : (Jvm.Cond.instanceMethod ({ cls := "ExchangeText$WrongPlace", name := "<init>", desc := "(I)V" } : Jvm.MethodName)) ∈ lw_all := lw_g (lw_at lw_m2 51 rfl) rfl
theorem q351 : (Jvm.Cond.code ({ cls := "ExchangeText$WrongPlace", name := "<init>", desc := "(I)V" } : Jvm.MethodName) prog_7_method_1_code (2 : Nat) (Option.none : Option Jvm.ClassFile.FieldType)) ∈ lw_all := lw_g (lw_at lw_m2 52 rfl) rfl
theorem q352 : (Jvm.Cond.stringRef "ExchangeText$WrongPlace" (1 : Nat) "wrong place") ∈ lw_tbl := lw_at lw_m2 53 rfl
theorem q353 : (Jvm.Cond.methodLink "ExchangeText$WrongPlace" (3 : Nat) ({ cls := "java/lang/Exception", name := "<init>", desc := "(Ljava/lang/String;)V" } : Jvm.MethodName)) ∈ lw_all := lw_g (lw_at lw_m2 54 rfl) rfl
theorem q359 : (Jvm.Cond.fieldLink "ExchangeText$WrongPlace" (9 : Nat) "ExchangeText$WrongPlace" "place" "I") ∈ lw_all := lw_g (lw_at lw_m2 60 rfl) rfl
theorem q366 : (Jvm.Cond.laysFinal "ExchangeText$WrongPlace" "ExchangeText$WrongPlace" "place" "I") ∈ lw_all := lw_g (lw_at lw_m2 67 rfl) rfl
theorem q367 : (Jvm.Cond.soleField "ExchangeText$WrongPlace" "place") ∈ lw_all := lw_g (lw_at lw_m2 68 rfl) rfl
theorem q372 : (Jvm.Cond.lays "ExchangeText$WrongPlace" "java/lang/Throwable" "depth" "I") ∈ lw_all := lw_g (lw_at lw_m2 73 rfl) rfl
theorem q375 : (Jvm.Cond.superclass "ExchangeText$WrongPlace" "java/lang/Exception") ∈ lw_all := lw_g (lw_at lw_m2 76 rfl) rfl
theorem q867 : (Jvm.Cond.selects "ExchangeText$WrongPlace" ({ cls := "java/lang/Object", name := "getClass", desc := "()Ljava/lang/Class;" } : Jvm.MethodName) ({ cls := "java/lang/Object", name := "getClass", desc := "()Ljava/lang/Class;" } : Jvm.MethodName)) ∈ lw_all := lw_g (lw_at lw_m4 88 rfl) rfl
theorem q2296 : (Jvm.Cond.castable "ExchangeText$WrongPlace" "java/lang/Object") ∈ lw_tbl := lw_at lw_m10 77 rfl
theorem in_X5 : ∀ w ∈ wsX50, w ∈ lw_all := lw_in wsX50 [319, 321, 323, 325, 327, 372, 366] (by decide +kernel) (by decide +kernel)
/-! java/util/BitSet -/
def RJ21 : String := "java/util/BitSet"
def TJ21 : u_T := fun k => match k with
  | 0 => ("java/util/BitSet", "words", "[J", false)
  | 1 => ("java/util/BitSet", "wordsInUse", "I", false)
  | _ => ("java/util/BitSet", "sizeIsSticky", "Z", false)
def tyJ21 : Nat → FieldType := fun k => match k with
  | 0 => .array .long
  | 1 => .int
  | _ => .boolean
abbrev wsJ210 : List Cond := u_ws RJ21 TJ21 3
theorem nmJ21 : ∀ a, a < 3 → ∀ b, b < 3 → a ≠ b → (TJ21 a).2.1 ≠ (TJ21 b).2.1 := by decide +kernel
theorem tyJ21_ok : ∀ k, k < 3 → parseFieldDescriptor (TJ21 k).2.2.1 = some (tyJ21 k) := by decide +kernel
abbrev cJ21_init : ByteArray := prog_44_method_4_code
def yJ21_init : MethodName := ⟨RJ21, "<init>", "()V"⟩
abbrev cJ21_initWords : ByteArray := prog_44_method_6_code
def yJ21_initWords : MethodName := ⟨RJ21, "initWords", "(I)V"⟩
abbrev cJ21_wordIndex : ByteArray := prog_44_method_1_code
def yJ21_wordIndex : MethodName := ⟨RJ21, "wordIndex", "(I)I"⟩
abbrev cJ21_set : ByteArray := prog_44_method_19_code
def yJ21_set : MethodName := ⟨RJ21, "set", "(I)V"⟩
abbrev cJ21_expandTo : ByteArray := prog_44_method_15_code
def yJ21_expandTo : MethodName := ⟨RJ21, "expandTo", "(I)V"⟩
abbrev cJ21_ensureCapacity : ByteArray := prog_44_method_14_code
def yJ21_ensureCapacity : MethodName := ⟨RJ21, "ensureCapacity", "(I)V"⟩
abbrev cJ21_checkInvariants : ByteArray := prog_44_method_2_code
def yJ21_checkInvariants : MethodName := ⟨RJ21, "checkInvariants", "()V"⟩
abbrev cJ21_get : ByteArray := prog_44_method_26_code
def yJ21_get : MethodName := ⟨RJ21, "get", "(I)Z"⟩
abbrev cJ21_clear : ByteArray := prog_44_method_25_code
def yJ21_clear : MethodName := ⟨RJ21, "clear", "()V"⟩
theorem q87 : (Jvm.Cond.initialized "java/util/BitSet") ∈ lw_all := lw_g (lw_at lw_m1 28 rfl) rfl
theorem q616 : (Jvm.Cond.instantiable "java/util/BitSet" (3 : Nat)) ∈ lw_all := lw_g (lw_at lw_m3 77 rfl) rfl
theorem q618 : (Jvm.Cond.instanceMethod ({ cls := "java/util/BitSet", name := "<init>", desc := "()V" } : Jvm.MethodName)) ∈ lw_all := lw_g (lw_at lw_m3 79 rfl) rfl
theorem q619 : (Jvm.Cond.code ({ cls := "java/util/BitSet", name := "<init>", desc := "()V" } : Jvm.MethodName) prog_44_method_4_code (1 : Nat) (Option.none : Option Jvm.ClassFile.FieldType)) ∈ lw_all := lw_g (lw_at lw_m3 80 rfl) rfl
theorem q620 : (Jvm.Cond.methodLink "java/util/BitSet" (21 : Nat) ({ cls := "java/lang/Object", name := "<init>", desc := "()V" } : Jvm.MethodName)) ∈ lw_all := lw_g (lw_at lw_m3 81 rfl) rfl
theorem q621 : (Jvm.Cond.methodLink "java/util/BitSet" (27 : Nat) ({ cls := "java/util/BitSet", name := "initWords", desc := "(I)V" } : Jvm.MethodName)) ∈ lw_all := lw_g (lw_at lw_m3 82 rfl) rfl
theorem q622 : (Jvm.Cond.privateMethod ({ cls := "java/util/BitSet", name := "initWords", desc := "(I)V" } : Jvm.MethodName)) ∈ lw_tbl := lw_at lw_m3 83 rfl
theorem q623 : (Jvm.Cond.instanceMethod ({ cls := "java/util/BitSet", name := "initWords", desc := "(I)V" } : Jvm.MethodName)) ∈ lw_all := lw_g (lw_at lw_m3 84 rfl) rfl
theorem q624 : (Jvm.Cond.code ({ cls := "java/util/BitSet", name := "initWords", desc := "(I)V" } : Jvm.MethodName) prog_44_method_6_code (2 : Nat) (Option.none : Option Jvm.ClassFile.FieldType)) ∈ lw_all := lw_g (lw_at lw_m3 85 rfl) rfl
theorem q625 : (Jvm.Cond.methodLink "java/util/BitSet" (52 : Nat) ({ cls := "java/util/BitSet", name := "wordIndex", desc := "(I)I" } : Jvm.MethodName)) ∈ lw_all := lw_g (lw_at lw_m3 86 rfl) rfl
theorem q626 : (Jvm.Cond.static ({ cls := "java/util/BitSet", name := "wordIndex", desc := "(I)I" } : Jvm.MethodName)) ∈ lw_all := lw_g (lw_at lw_m3 87 rfl) rfl
theorem q627 : (Jvm.Cond.code ({ cls := "java/util/BitSet", name := "wordIndex", desc := "(I)I" } : Jvm.MethodName) prog_44_method_1_code (1 : Nat) (Option.some Jvm.ClassFile.FieldType.int)) ∈ lw_all := lw_g (lw_at lw_m3 88 rfl) rfl
theorem q628 : (Jvm.Cond.fieldLink "java/util/BitSet" (11 : Nat) "java/util/BitSet" "words" "[J") ∈ lw_all := lw_g (lw_at lw_m3 89 rfl) rfl
theorem q629 : (Jvm.Cond.fieldLink "java/util/BitSet" (7 : Nat) "java/util/BitSet" "wordsInUse" "I") ∈ lw_all := lw_g (lw_at lw_m3 90 rfl) rfl
theorem q630 : (Jvm.Cond.fieldLink "java/util/BitSet" (24 : Nat) "java/util/BitSet" "sizeIsSticky" "Z") ∈ lw_all := lw_g (lw_at lw_m3 91 rfl) rfl
theorem q631 : (Jvm.Cond.lays "java/util/BitSet" "java/util/BitSet" "words" "[J") ∈ lw_all := lw_g (lw_at lw_m3 92 rfl) rfl
theorem q632 : (Jvm.Cond.soleField "java/util/BitSet" "words") ∈ lw_all := lw_g (lw_at lw_m3 93 rfl) rfl
theorem q633 : (Jvm.Cond.lays "java/util/BitSet" "java/util/BitSet" "wordsInUse" "I") ∈ lw_all := lw_g (lw_at lw_m3 94 rfl) rfl
theorem q634 : (Jvm.Cond.soleField "java/util/BitSet" "wordsInUse") ∈ lw_all := lw_g (lw_at lw_m3 95 rfl) rfl
theorem q635 : (Jvm.Cond.lays "java/util/BitSet" "java/util/BitSet" "sizeIsSticky" "Z") ∈ lw_all := lw_g (lw_at lw_m3 96 rfl) rfl
theorem q636 : (Jvm.Cond.soleField "java/util/BitSet" "sizeIsSticky") ∈ lw_all := lw_g (lw_at lw_m3 97 rfl) rfl
theorem q637 : (Jvm.Cond.superclass "java/util/BitSet" "java/lang/Object") ∈ lw_all := lw_g (lw_at lw_m3 98 rfl) rfl
theorem q801 : (Jvm.Cond.instanceMethod ({ cls := "java/util/BitSet", name := "set", desc := "(I)V" } : Jvm.MethodName)) ∈ lw_all := lw_g (lw_at lw_m4 22 rfl) rfl
theorem q802 : (Jvm.Cond.selects "java/util/BitSet" ({ cls := "java/util/BitSet", name := "set", desc := "(I)V" } : Jvm.MethodName) ({ cls := "java/util/BitSet", name := "set", desc := "(I)V" } : Jvm.MethodName)) ∈ lw_all := lw_g (lw_at lw_m4 23 rfl) rfl
theorem q803 : (Jvm.Cond.code ({ cls := "java/util/BitSet", name := "set", desc := "(I)V" } : Jvm.MethodName) prog_44_method_19_code (3 : Nat) (Option.none : Option Jvm.ClassFile.FieldType)) ∈ lw_all := lw_g (lw_at lw_m4 24 rfl) rfl
theorem q804 : (Jvm.Cond.methodLink "java/util/BitSet" (155 : Nat) ({ cls := "java/util/BitSet", name := "expandTo", desc := "(I)V" } : Jvm.MethodName)) ∈ lw_all := lw_g (lw_at lw_m4 25 rfl) rfl
theorem q805 : (Jvm.Cond.privateMethod ({ cls := "java/util/BitSet", name := "expandTo", desc := "(I)V" } : Jvm.MethodName)) ∈ lw_tbl := lw_at lw_m4 26 rfl
theorem q806 : (Jvm.Cond.instanceMethod ({ cls := "java/util/BitSet", name := "expandTo", desc := "(I)V" } : Jvm.MethodName)) ∈ lw_all := lw_g (lw_at lw_m4 27 rfl) rfl
theorem q807 : (Jvm.Cond.code ({ cls := "java/util/BitSet", name := "expandTo", desc := "(I)V" } : Jvm.MethodName) prog_44_method_15_code (3 : Nat) (Option.none : Option Jvm.ClassFile.FieldType)) ∈ lw_all := lw_g (lw_at lw_m4 28 rfl) rfl
theorem q808 : (Jvm.Cond.methodLink "java/util/BitSet" (139 : Nat) ({ cls := "java/util/BitSet", name := "ensureCapacity", desc := "(I)V" } : Jvm.MethodName)) ∈ lw_all := lw_g (lw_at lw_m4 29 rfl) rfl
theorem q809 : (Jvm.Cond.privateMethod ({ cls := "java/util/BitSet", name := "ensureCapacity", desc := "(I)V" } : Jvm.MethodName)) ∈ lw_tbl := lw_at lw_m4 30 rfl
theorem q810 : (Jvm.Cond.instanceMethod ({ cls := "java/util/BitSet", name := "ensureCapacity", desc := "(I)V" } : Jvm.MethodName)) ∈ lw_all := lw_g (lw_at lw_m4 31 rfl) rfl
theorem q811 : (Jvm.Cond.code ({ cls := "java/util/BitSet", name := "ensureCapacity", desc := "(I)V" } : Jvm.MethodName) prog_44_method_14_code (3 : Nat) (Option.none : Option Jvm.ClassFile.FieldType)) ∈ lw_all := lw_g (lw_at lw_m4 32 rfl) rfl
theorem q812 : (Jvm.Cond.methodLink "java/util/BitSet" (133 : Nat) ({ cls := "java/lang/Math", name := "max", desc := "(II)I" } : Jvm.MethodName)) ∈ lw_all := lw_g (lw_at lw_m4 33 rfl) rfl
theorem q813 : (Jvm.Cond.methodLink "java/util/BitSet" (59 : Nat) ({ cls := "java/util/Arrays", name := "copyOf", desc := "([JI)[J" } : Jvm.MethodName)) ∈ lw_all := lw_g (lw_at lw_m4 34 rfl) rfl
theorem q821 : (Jvm.Cond.methodLink "java/util/BitSet" (56 : Nat) ({ cls := "java/util/BitSet", name := "checkInvariants", desc := "()V" } : Jvm.MethodName)) ∈ lw_all := lw_g (lw_at lw_m4 42 rfl) rfl
theorem q822 : (Jvm.Cond.privateMethod ({ cls := "java/util/BitSet", name := "checkInvariants", desc := "()V" } : Jvm.MethodName)) ∈ lw_tbl := lw_at lw_m4 43 rfl
theorem q823 : (Jvm.Cond.instanceMethod ({ cls := "java/util/BitSet", name := "checkInvariants", desc := "()V" } : Jvm.MethodName)) ∈ lw_all := lw_g (lw_at lw_m4 44 rfl) rfl
theorem q824 : (Jvm.Cond.code ({ cls := "java/util/BitSet", name := "checkInvariants", desc := "()V" } : Jvm.MethodName) prog_44_method_2_code (1 : Nat) (Option.none : Option Jvm.ClassFile.FieldType)) ∈ lw_all := lw_g (lw_at lw_m4 45 rfl) rfl
theorem q825 : (Jvm.Cond.fieldLink "java/util/BitSet" (3 : Nat) "java/util/BitSet" "$assertionsDisabled" "Z") ∈ lw_all := lw_g (lw_at lw_m4 46 rfl) rfl
theorem q826 : (Jvm.Cond.laysStatic "java/util/BitSet" "$assertionsDisabled" "Z") ∈ lw_tbl := lw_at lw_m4 47 rfl
theorem q876 : (Jvm.Cond.selects "java/util/BitSet" ({ cls := "java/lang/Object", name := "getClass", desc := "()Ljava/lang/Class;" } : Jvm.MethodName) ({ cls := "java/lang/Object", name := "getClass", desc := "()Ljava/lang/Class;" } : Jvm.MethodName)) ∈ lw_all := lw_g (lw_at lw_m4 97 rfl) rfl
theorem q1852 : (Jvm.Cond.instanceMethod ({ cls := "java/util/BitSet", name := "get", desc := "(I)Z" } : Jvm.MethodName)) ∈ lw_all := lw_g (lw_at lw_m8 113 rfl) rfl
theorem q1853 : (Jvm.Cond.selects "java/util/BitSet" ({ cls := "java/util/BitSet", name := "get", desc := "(I)Z" } : Jvm.MethodName) ({ cls := "java/util/BitSet", name := "get", desc := "(I)Z" } : Jvm.MethodName)) ∈ lw_all := lw_g (lw_at lw_m8 114 rfl) rfl
theorem q1854 : (Jvm.Cond.code ({ cls := "java/util/BitSet", name := "get", desc := "(I)Z" } : Jvm.MethodName) prog_44_method_26_code (3 : Nat) (Option.some Jvm.ClassFile.FieldType.boolean)) ∈ lw_all := lw_g (lw_at lw_m8 115 rfl) rfl
theorem q1887 : (Jvm.Cond.instanceMethod ({ cls := "java/util/BitSet", name := "clear", desc := "()V" } : Jvm.MethodName)) ∈ lw_all := lw_g (lw_at lw_m8 148 rfl) rfl
theorem q1888 : (Jvm.Cond.selects "java/util/BitSet" ({ cls := "java/util/BitSet", name := "clear", desc := "()V" } : Jvm.MethodName) ({ cls := "java/util/BitSet", name := "clear", desc := "()V" } : Jvm.MethodName)) ∈ lw_all := lw_g (lw_at lw_m8 149 rfl) rfl
theorem q1889 : (Jvm.Cond.code ({ cls := "java/util/BitSet", name := "clear", desc := "()V" } : Jvm.MethodName) prog_44_method_25_code (1 : Nat) (Option.none : Option Jvm.ClassFile.FieldType)) ∈ lw_all := lw_g (lw_at lw_m8 150 rfl) rfl
theorem q2297 : (Jvm.Cond.castable "java/util/BitSet" "java/lang/Object") ∈ lw_tbl := lw_at lw_m10 78 rfl
theorem in_J21 : ∀ w ∈ wsJ210, w ∈ lw_all := lw_in wsJ210 [631, 633, 635] (by decide +kernel) (by decide +kernel)
/-! java/util/ArrayList$Itr -/
def RJ22 : String := "java/util/ArrayList$Itr"
def TJ22 : u_T := fun k => match k with
  | 0 => ("java/util/ArrayList$Itr", "cursor", "I", false)
  | 1 => ("java/util/ArrayList$Itr", "lastRet", "I", false)
  | 2 => ("java/util/ArrayList$Itr", "expectedModCount", "I", false)
  | _ => ("java/util/ArrayList$Itr", "this$0", "Ljava/util/ArrayList;", true)
def tyJ22 : Nat → FieldType := fun k => match k with
  | 0 => .int
  | 1 => .int
  | 2 => .int
  | _ => .object "java/util/ArrayList"
abbrev wsJ220 : List Cond := u_ws RJ22 TJ22 4
theorem nmJ22 : ∀ a, a < 4 → ∀ b, b < 4 → a ≠ b → (TJ22 a).2.1 ≠ (TJ22 b).2.1 := by decide +kernel
theorem tyJ22_ok : ∀ k, k < 4 → parseFieldDescriptor (TJ22 k).2.2.1 = some (tyJ22 k) := by decide +kernel
abbrev cJ22_init : ByteArray := prog_42_method_1_code
def yJ22_init : MethodName := ⟨RJ22, "<init>", "(Ljava/util/ArrayList;)V"⟩
abbrev cJ22_hasNext : ByteArray := prog_42_method_2_code
def yJ22_hasNext : MethodName := ⟨RJ22, "hasNext", "()Z"⟩
abbrev cJ22_next : ByteArray := prog_42_method_3_code
def yJ22_next : MethodName := ⟨RJ22, "next", "()Ljava/lang/Object;"⟩
abbrev cJ22_checkForComodification : ByteArray := prog_42_method_6_code
def yJ22_checkForComodification : MethodName := ⟨RJ22, "checkForComodification", "()V"⟩
theorem q88 : (Jvm.Cond.initialized "java/util/ArrayList$Itr") ∈ lw_all := lw_g (lw_at lw_m1 29 rfl) rfl
theorem q161 : (Jvm.Cond.fieldLink "java/util/ArrayList$Itr" (37 : Nat) "java/util/ArrayList" "elementData" "[Ljava/lang/Object;") ∈ lw_all := lw_g (lw_at lw_m1 102 rfl) rfl
theorem q162 : (Jvm.Cond.fieldLinkNest "java/util/ArrayList$Itr" (28 : Nat) "java/util/ArrayList" "size" "I" "java/util/ArrayList") ∈ lw_tbl := lw_at lw_m1 103 rfl
theorem q165 : (Jvm.Cond.fieldLink "java/util/ArrayList$Itr" (17 : Nat) "java/util/ArrayList" "modCount" "I") ∈ lw_all := lw_g (lw_at lw_m1 106 rfl) rfl
theorem q662 : (Jvm.Cond.instantiable "java/util/ArrayList$Itr" (4 : Nat)) ∈ lw_all := lw_g (lw_at lw_m3 123 rfl) rfl
theorem q664 : (Jvm.Cond.instanceMethod ({ cls := "java/util/ArrayList$Itr", name := "<init>", desc := "(Ljava/util/ArrayList;)V" } : Jvm.MethodName)) ∈ lw_all := lw_g (lw_at lw_m3 125 rfl) rfl
theorem q665 : (Jvm.Cond.code ({ cls := "java/util/ArrayList$Itr", name := "<init>", desc := "(Ljava/util/ArrayList;)V" } : Jvm.MethodName) prog_42_method_1_code (2 : Nat) (Option.none : Option Jvm.ClassFile.FieldType)) ∈ lw_all := lw_g (lw_at lw_m3 126 rfl) rfl
theorem q666 : (Jvm.Cond.methodLink "java/util/ArrayList$Itr" (7 : Nat) ({ cls := "java/lang/Object", name := "<init>", desc := "()V" } : Jvm.MethodName)) ∈ lw_all := lw_g (lw_at lw_m3 127 rfl) rfl
theorem q667 : (Jvm.Cond.fieldLink "java/util/ArrayList$Itr" (25 : Nat) "java/util/ArrayList$Itr" "cursor" "I") ∈ lw_all := lw_g (lw_at lw_m3 128 rfl) rfl
theorem q668 : (Jvm.Cond.fieldLink "java/util/ArrayList$Itr" (13 : Nat) "java/util/ArrayList$Itr" "lastRet" "I") ∈ lw_all := lw_g (lw_at lw_m3 129 rfl) rfl
theorem q669 : (Jvm.Cond.fieldLink "java/util/ArrayList$Itr" (22 : Nat) "java/util/ArrayList$Itr" "expectedModCount" "I") ∈ lw_all := lw_g (lw_at lw_m3 130 rfl) rfl
theorem q670 : (Jvm.Cond.fieldLink "java/util/ArrayList$Itr" (1 : Nat) "java/util/ArrayList$Itr" "this$0" "Ljava/util/ArrayList;") ∈ lw_all := lw_g (lw_at lw_m3 131 rfl) rfl
theorem q671 : (Jvm.Cond.lays "java/util/ArrayList$Itr" "java/util/ArrayList$Itr" "cursor" "I") ∈ lw_all := lw_g (lw_at lw_m3 132 rfl) rfl
theorem q672 : (Jvm.Cond.soleField "java/util/ArrayList$Itr" "cursor") ∈ lw_all := lw_g (lw_at lw_m3 133 rfl) rfl
theorem q673 : (Jvm.Cond.lays "java/util/ArrayList$Itr" "java/util/ArrayList$Itr" "lastRet" "I") ∈ lw_all := lw_g (lw_at lw_m3 134 rfl) rfl
theorem q674 : (Jvm.Cond.soleField "java/util/ArrayList$Itr" "lastRet") ∈ lw_all := lw_g (lw_at lw_m3 135 rfl) rfl
theorem q675 : (Jvm.Cond.lays "java/util/ArrayList$Itr" "java/util/ArrayList$Itr" "expectedModCount" "I") ∈ lw_all := lw_g (lw_at lw_m3 136 rfl) rfl
theorem q676 : (Jvm.Cond.soleField "java/util/ArrayList$Itr" "expectedModCount") ∈ lw_all := lw_g (lw_at lw_m3 137 rfl) rfl
theorem q677 : (Jvm.Cond.laysFinal "java/util/ArrayList$Itr" "java/util/ArrayList$Itr" "this$0" "Ljava/util/ArrayList;") ∈ lw_all := lw_g (lw_at lw_m3 138 rfl) rfl
theorem q678 : (Jvm.Cond.soleField "java/util/ArrayList$Itr" "this$0") ∈ lw_all := lw_g (lw_at lw_m3 139 rfl) rfl
theorem q679 : (Jvm.Cond.superclass "java/util/ArrayList$Itr" "java/lang/Object") ∈ lw_all := lw_g (lw_at lw_m3 140 rfl) rfl
theorem q684 : (Jvm.Cond.castable "java/util/ArrayList$Itr" "java/util/Iterator") ∈ lw_tbl := lw_at lw_m3 145 rfl
theorem q685 : (Jvm.Cond.selects "java/util/ArrayList$Itr" ({ cls := "java/util/Iterator", name := "hasNext", desc := "()Z" } : Jvm.MethodName) ({ cls := "java/util/ArrayList$Itr", name := "hasNext", desc := "()Z" } : Jvm.MethodName)) ∈ lw_all := lw_g (lw_at lw_m3 146 rfl) rfl
theorem q686 : (Jvm.Cond.unhidden "java/util/ArrayList$Itr" "hasNext" "()Z") ∈ lw_tbl := lw_at lw_m3 147 rfl
theorem q687 : (Jvm.Cond.instanceMethod ({ cls := "java/util/ArrayList$Itr", name := "hasNext", desc := "()Z" } : Jvm.MethodName)) ∈ lw_all := lw_g (lw_at lw_m3 148 rfl) rfl
theorem q688 : (Jvm.Cond.publicMethod ({ cls := "java/util/ArrayList$Itr", name := "hasNext", desc := "()Z" } : Jvm.MethodName)) ∈ lw_tbl := lw_at lw_m3 149 rfl
theorem q689 : (Jvm.Cond.code ({ cls := "java/util/ArrayList$Itr", name := "hasNext", desc := "()Z" } : Jvm.MethodName) prog_42_method_2_code (1 : Nat) (Option.some Jvm.ClassFile.FieldType.boolean)) ∈ lw_all := lw_g (lw_at lw_m3 150 rfl) rfl
theorem q700 : (Jvm.Cond.selects "java/util/ArrayList$Itr" ({ cls := "java/util/Iterator", name := "next", desc := "()Ljava/lang/Object;" } : Jvm.MethodName) ({ cls := "java/util/ArrayList$Itr", name := "next", desc := "()Ljava/lang/Object;" } : Jvm.MethodName)) ∈ lw_all := lw_g (lw_at lw_m3 161 rfl) rfl
theorem q701 : (Jvm.Cond.unhidden "java/util/ArrayList$Itr" "next" "()Ljava/lang/Object;") ∈ lw_tbl := lw_at lw_m3 162 rfl
theorem q702 : (Jvm.Cond.instanceMethod ({ cls := "java/util/ArrayList$Itr", name := "next", desc := "()Ljava/lang/Object;" } : Jvm.MethodName)) ∈ lw_all := lw_g (lw_at lw_m3 163 rfl) rfl
theorem q703 : (Jvm.Cond.publicMethod ({ cls := "java/util/ArrayList$Itr", name := "next", desc := "()Ljava/lang/Object;" } : Jvm.MethodName)) ∈ lw_tbl := lw_at lw_m3 164 rfl
theorem q704 : (Jvm.Cond.code ({ cls := "java/util/ArrayList$Itr", name := "next", desc := "()Ljava/lang/Object;" } : Jvm.MethodName) prog_42_method_3_code (3 : Nat) (Option.some (Jvm.ClassFile.FieldType.object "java/lang/Object"))) ∈ lw_all := lw_g (lw_at lw_m3 165 rfl) rfl
theorem q705 : (Jvm.Cond.methodLink "java/util/ArrayList$Itr" (31 : Nat) ({ cls := "java/util/ArrayList$Itr", name := "checkForComodification", desc := "()V" } : Jvm.MethodName)) ∈ lw_all := lw_g (lw_at lw_m3 166 rfl) rfl
theorem q706 : (Jvm.Cond.instanceMethod ({ cls := "java/util/ArrayList$Itr", name := "checkForComodification", desc := "()V" } : Jvm.MethodName)) ∈ lw_all := lw_g (lw_at lw_m3 167 rfl) rfl
theorem q707 : (Jvm.Cond.selects "java/util/ArrayList$Itr" ({ cls := "java/util/ArrayList$Itr", name := "checkForComodification", desc := "()V" } : Jvm.MethodName) ({ cls := "java/util/ArrayList$Itr", name := "checkForComodification", desc := "()V" } : Jvm.MethodName)) ∈ lw_all := lw_g (lw_at lw_m3 168 rfl) rfl
theorem q708 : (Jvm.Cond.code ({ cls := "java/util/ArrayList$Itr", name := "checkForComodification", desc := "()V" } : Jvm.MethodName) prog_42_method_6_code (1 : Nat) (Option.none : Option Jvm.ClassFile.FieldType)) ∈ lw_all := lw_g (lw_at lw_m3 169 rfl) rfl
theorem q875 : (Jvm.Cond.selects "java/util/ArrayList$Itr" ({ cls := "java/lang/Object", name := "getClass", desc := "()Ljava/lang/Class;" } : Jvm.MethodName) ({ cls := "java/lang/Object", name := "getClass", desc := "()Ljava/lang/Class;" } : Jvm.MethodName)) ∈ lw_all := lw_g (lw_at lw_m4 96 rfl) rfl
theorem q2298 : (Jvm.Cond.castable "java/util/ArrayList$Itr" "java/lang/Object") ∈ lw_tbl := lw_at lw_m10 79 rfl
theorem in_J22 : ∀ w ∈ wsJ220, w ∈ lw_all := lw_in wsJ220 [671, 673, 675, 677] (by decide +kernel) (by decide +kernel)
/-! java/lang/Character -/
def RJ23 : String := "java/lang/Character"
abbrev cJ23_isValidCodePoint : ByteArray := prog_14_method_11_code
def yJ23_isValidCodePoint : MethodName := ⟨RJ23, "isValidCodePoint", "(I)Z"⟩
abbrev cJ23_highSurrogate : ByteArray := prog_14_method_28_code
def yJ23_highSurrogate : MethodName := ⟨RJ23, "highSurrogate", "(I)C"⟩
abbrev cJ23_lowSurrogate : ByteArray := prog_14_method_29_code
def yJ23_lowSurrogate : MethodName := ⟨RJ23, "lowSurrogate", "(I)C"⟩
theorem q89 : (Jvm.Cond.initialized "java/lang/Character") ∈ lw_all := lw_g (lw_at lw_m1 30 rfl) rfl
theorem q785 : (Jvm.Cond.static ({ cls := "java/lang/Character", name := "isValidCodePoint", desc := "(I)Z" } : Jvm.MethodName)) ∈ lw_all := lw_g (lw_at lw_m4 6 rfl) rfl
theorem q786 : (Jvm.Cond.code ({ cls := "java/lang/Character", name := "isValidCodePoint", desc := "(I)Z" } : Jvm.MethodName) prog_14_method_11_code (2 : Nat) (Option.some Jvm.ClassFile.FieldType.boolean)) ∈ lw_all := lw_g (lw_at lw_m4 7 rfl) rfl
theorem q788 : (Jvm.Cond.static ({ cls := "java/lang/Character", name := "highSurrogate", desc := "(I)C" } : Jvm.MethodName)) ∈ lw_all := lw_g (lw_at lw_m4 9 rfl) rfl
theorem q789 : (Jvm.Cond.code ({ cls := "java/lang/Character", name := "highSurrogate", desc := "(I)C" } : Jvm.MethodName) prog_14_method_28_code (1 : Nat) (Option.some Jvm.ClassFile.FieldType.char)) ∈ lw_all := lw_g (lw_at lw_m4 10 rfl) rfl
theorem q790 : (Jvm.Cond.constant "java/lang/Character" (110 : Nat) (55232 : Int32)) ∈ lw_all := lw_g (lw_at lw_m4 11 rfl) rfl
theorem q792 : (Jvm.Cond.static ({ cls := "java/lang/Character", name := "lowSurrogate", desc := "(I)C" } : Jvm.MethodName)) ∈ lw_all := lw_g (lw_at lw_m4 13 rfl) rfl
theorem q793 : (Jvm.Cond.code ({ cls := "java/lang/Character", name := "lowSurrogate", desc := "(I)C" } : Jvm.MethodName) prog_14_method_29_code (1 : Nat) (Option.some Jvm.ClassFile.FieldType.char)) ∈ lw_all := lw_g (lw_at lw_m4 14 rfl) rfl
theorem q794 : (Jvm.Cond.constant "java/lang/Character" (76 : Nat) (56320 : Int32)) ∈ lw_all := lw_g (lw_at lw_m4 15 rfl) rfl
/-! java/lang/Enum -/
def RJ24 : String := "java/lang/Enum"
abbrev cJ24_compareTo : ByteArray := prog_17_method_15_code
def yJ24_compareTo : MethodName := ⟨RJ24, "compareTo", "(Ljava/lang/Object;)I"⟩
abbrev cJ24_compareTo_2 : ByteArray := prog_17_method_8_code
def yJ24_compareTo_2 : MethodName := ⟨RJ24, "compareTo", "(Ljava/lang/Enum;)I"⟩
abbrev cJ24_getDeclaringClass : ByteArray := prog_17_method_9_code
def yJ24_getDeclaringClass : MethodName := ⟨RJ24, "getDeclaringClass", "()Ljava/lang/Class;"⟩
abbrev cJ24_ordinal : ByteArray := prog_17_method_2_code
def yJ24_ordinal : MethodName := ⟨RJ24, "ordinal", "()I"⟩
theorem q90 : (Jvm.Cond.initialized "java/lang/Enum") ∈ lw_all := lw_g (lw_at lw_m1 31 rfl) rfl
theorem q982 : (Jvm.Cond.instanceMethod ({ cls := "java/lang/Enum", name := "compareTo", desc := "(Ljava/lang/Object;)I" } : Jvm.MethodName)) ∈ lw_all := lw_g (lw_at lw_m4 203 rfl) rfl
theorem q983 : (Jvm.Cond.publicMethod ({ cls := "java/lang/Enum", name := "compareTo", desc := "(Ljava/lang/Object;)I" } : Jvm.MethodName)) ∈ lw_tbl := lw_at lw_m4 204 rfl
theorem q984 : (Jvm.Cond.code ({ cls := "java/lang/Enum", name := "compareTo", desc := "(Ljava/lang/Object;)I" } : Jvm.MethodName) prog_17_method_15_code (2 : Nat) (Option.some Jvm.ClassFile.FieldType.int)) ∈ lw_all := lw_g (lw_at lw_m4 205 rfl) rfl
theorem q985 : (Jvm.Cond.classLink "java/lang/Enum" (2 : Nat) "java/lang/Enum") ∈ lw_all := lw_g (lw_at lw_m4 206 rfl) rfl
theorem q986 : (Jvm.Cond.methodLink "java/lang/Enum" (101 : Nat) ({ cls := "java/lang/Enum", name := "compareTo", desc := "(Ljava/lang/Enum;)I" } : Jvm.MethodName)) ∈ lw_all := lw_g (lw_at lw_m4 207 rfl) rfl
theorem q987 : (Jvm.Cond.instanceMethod ({ cls := "java/lang/Enum", name := "compareTo", desc := "(Ljava/lang/Enum;)I" } : Jvm.MethodName)) ∈ lw_all := lw_g (lw_at lw_m4 208 rfl) rfl
theorem q988 : (Jvm.Cond.sameMethod "java/lang/Enum" "java/lang/Enum" "compareTo" "(Ljava/lang/Enum;)I") ∈ lw_all := lw_g (lw_at lw_m4 209 rfl) rfl
theorem q990 : (Jvm.Cond.code ({ cls := "java/lang/Enum", name := "compareTo", desc := "(Ljava/lang/Enum;)I" } : Jvm.MethodName) prog_17_method_8_code (4 : Nat) (Option.some Jvm.ClassFile.FieldType.int)) ∈ lw_all := lw_g (lw_at lw_m4 211 rfl) rfl
theorem q991 : (Jvm.Cond.methodLink "java/lang/Enum" (29 : Nat) ({ cls := "java/lang/Object", name := "getClass", desc := "()Ljava/lang/Class;" } : Jvm.MethodName)) ∈ lw_all := lw_g (lw_at lw_m4 212 rfl) rfl
theorem q992 : (Jvm.Cond.methodLink "java/lang/Enum" (33 : Nat) ({ cls := "java/lang/Enum", name := "getDeclaringClass", desc := "()Ljava/lang/Class;" } : Jvm.MethodName)) ∈ lw_all := lw_g (lw_at lw_m4 213 rfl) rfl
theorem q993 : (Jvm.Cond.instanceMethod ({ cls := "java/lang/Enum", name := "getDeclaringClass", desc := "()Ljava/lang/Class;" } : Jvm.MethodName)) ∈ lw_all := lw_g (lw_at lw_m4 214 rfl) rfl
theorem q994 : (Jvm.Cond.sameMethod "java/lang/Enum" "java/lang/Enum" "getDeclaringClass" "()Ljava/lang/Class;") ∈ lw_all := lw_g (lw_at lw_m4 215 rfl) rfl
theorem q996 : (Jvm.Cond.code ({ cls := "java/lang/Enum", name := "getDeclaringClass", desc := "()Ljava/lang/Class;" } : Jvm.MethodName) prog_17_method_9_code (3 : Nat) (Option.some (Jvm.ClassFile.FieldType.object "java/lang/Class"))) ∈ lw_all := lw_g (lw_at lw_m4 217 rfl) rfl
theorem q1500 : (Jvm.Cond.declares ({ cls := "java/lang/Enum", name := "ordinal", desc := "()I" } : Jvm.MethodName)) ∈ lw_tbl := lw_at lw_m7 1 rfl
theorem q1502 : (Jvm.Cond.instanceMethod ({ cls := "java/lang/Enum", name := "ordinal", desc := "()I" } : Jvm.MethodName)) ∈ lw_all := lw_g (lw_at lw_m7 3 rfl) rfl
theorem q1503 : (Jvm.Cond.code ({ cls := "java/lang/Enum", name := "ordinal", desc := "()I" } : Jvm.MethodName) prog_17_method_2_code (1 : Nat) (Option.some Jvm.ClassFile.FieldType.int)) ∈ lw_all := lw_g (lw_at lw_m7 4 rfl) rfl
theorem q2312 : (Jvm.Cond.fieldLink "java/lang/Enum" (7 : Nat) "java/lang/Enum" "ordinal" "I") ∈ lw_all := lw_g (lw_at lw_m10 93 rfl) rfl
/-! ExchangeText$Sort -/
def RX6 : String := "ExchangeText$Sort"
abbrev cX6_values : ByteArray := prog_6_method_1_code
def yX6_values : MethodName := ⟨RX6, "values", "()[LExchangeText$Sort;"⟩
theorem q91 : (Jvm.Cond.initialized "ExchangeText$Sort") ∈ lw_all := lw_g (lw_at lw_m1 32 rfl) rfl
theorem q828 : (Jvm.Cond.static ({ cls := "ExchangeText$Sort", name := "values", desc := "()[LExchangeText$Sort;" } : Jvm.MethodName)) ∈ lw_all := lw_g (lw_at lw_m4 49 rfl) rfl
theorem q829 : (Jvm.Cond.code ({ cls := "ExchangeText$Sort", name := "values", desc := "()[LExchangeText$Sort;" } : Jvm.MethodName) prog_6_method_1_code (0 : Nat) (Option.some (Jvm.ClassFile.FieldType.array (Jvm.ClassFile.FieldType.object "ExchangeText$Sort")))) ∈ lw_all := lw_g (lw_at lw_m4 50 rfl) rfl
theorem q830 : (Jvm.Cond.fieldLink "ExchangeText$Sort" (25 : Nat) "ExchangeText$Sort" "$VALUES" "[LExchangeText$Sort;") ∈ lw_all := lw_g (lw_at lw_m4 51 rfl) rfl
theorem q831 : (Jvm.Cond.laysStatic "ExchangeText$Sort" "$VALUES" "[LExchangeText$Sort;") ∈ lw_tbl := lw_at lw_m4 52 rfl
theorem q832 : (Jvm.Cond.methodLink "ExchangeText$Sort" (29 : Nat) ({ cls := "[LExchangeText$Sort;", name := "clone", desc := "()Ljava/lang/Object;" } : Jvm.MethodName)) ∈ lw_all := lw_g (lw_at lw_m4 53 rfl) rfl
theorem q837 : (Jvm.Cond.classLink "ExchangeText$Sort" (30 : Nat) "[LExchangeText$Sort;") ∈ lw_all := lw_g (lw_at lw_m4 58 rfl) rfl
theorem q866 : (Jvm.Cond.selects "ExchangeText$Sort" ({ cls := "java/lang/Object", name := "getClass", desc := "()Ljava/lang/Class;" } : Jvm.MethodName) ({ cls := "java/lang/Object", name := "getClass", desc := "()Ljava/lang/Class;" } : Jvm.MethodName)) ∈ lw_all := lw_g (lw_at lw_m4 87 rfl) rfl
theorem q979 : (Jvm.Cond.castable "ExchangeText$Sort" "java/lang/Comparable") ∈ lw_tbl := lw_at lw_m4 200 rfl
theorem q980 : (Jvm.Cond.selects "ExchangeText$Sort" ({ cls := "java/lang/Comparable", name := "compareTo", desc := "(Ljava/lang/Object;)I" } : Jvm.MethodName) ({ cls := "java/lang/Enum", name := "compareTo", desc := "(Ljava/lang/Object;)I" } : Jvm.MethodName)) ∈ lw_all := lw_g (lw_at lw_m4 201 rfl) rfl
theorem q981 : (Jvm.Cond.unhidden "ExchangeText$Sort" "compareTo" "(Ljava/lang/Object;)I") ∈ lw_tbl := lw_at lw_m4 202 rfl
theorem q989 : (Jvm.Cond.selects "ExchangeText$Sort" ({ cls := "java/lang/Enum", name := "compareTo", desc := "(Ljava/lang/Enum;)I" } : Jvm.MethodName) ({ cls := "java/lang/Enum", name := "compareTo", desc := "(Ljava/lang/Enum;)I" } : Jvm.MethodName)) ∈ lw_all := lw_g (lw_at lw_m4 210 rfl) rfl
theorem q995 : (Jvm.Cond.selects "ExchangeText$Sort" ({ cls := "java/lang/Enum", name := "getDeclaringClass", desc := "()Ljava/lang/Class;" } : Jvm.MethodName) ({ cls := "java/lang/Enum", name := "getDeclaringClass", desc := "()Ljava/lang/Class;" } : Jvm.MethodName)) ∈ lw_all := lw_g (lw_at lw_m4 216 rfl) rfl
theorem q1238 : (Jvm.Cond.laysStatic "ExchangeText$Sort" "TEXT" "LExchangeText$Sort;") ∈ lw_tbl := lw_at lw_m5 219 rfl
theorem q1265 : (Jvm.Cond.laysStatic "ExchangeText$Sort" "REFERENCE" "LExchangeText$Sort;") ∈ lw_tbl := lw_at lw_m6 6 rfl
theorem q1300 : (Jvm.Cond.laysStatic "ExchangeText$Sort" "REFERENCES" "LExchangeText$Sort;") ∈ lw_tbl := lw_at lw_m6 41 rfl
theorem q1302 : (Jvm.Cond.laysStatic "ExchangeText$Sort" "NUMBERS" "LExchangeText$Sort;") ∈ lw_tbl := lw_at lw_m6 43 rfl
theorem q1305 : (Jvm.Cond.laysStatic "ExchangeText$Sort" "NOTHING" "LExchangeText$Sort;") ∈ lw_tbl := lw_at lw_m6 46 rfl
theorem q1307 : (Jvm.Cond.laysStatic "ExchangeText$Sort" "WORD" "LExchangeText$Sort;") ∈ lw_tbl := lw_at lw_m6 48 rfl
theorem q1309 : (Jvm.Cond.laysStatic "ExchangeText$Sort" "NUMBER" "LExchangeText$Sort;") ∈ lw_tbl := lw_at lw_m6 50 rfl
theorem q1499 : (Jvm.Cond.sameMethod "ExchangeText$Sort" "java/lang/Enum" "ordinal" "()I") ∈ lw_all := lw_g (lw_at lw_m7 0 rfl) rfl
theorem q1501 : (Jvm.Cond.selects "ExchangeText$Sort" ({ cls := "ExchangeText$Sort", name := "ordinal", desc := "()I" } : Jvm.MethodName) ({ cls := "java/lang/Enum", name := "ordinal", desc := "()I" } : Jvm.MethodName)) ∈ lw_all := lw_g (lw_at lw_m7 2 rfl) rfl
theorem q2279 : (Jvm.Cond.castable "ExchangeText$Sort" "java/lang/Enum") ∈ lw_tbl := lw_at lw_m10 60 rfl
theorem q2281 : (Jvm.Cond.castable "ExchangeText$Sort" "java/lang/Object") ∈ lw_tbl := lw_at lw_m10 62 rfl
/-! java/util/Objects -/
def RJ25 : String := "java/util/Objects"
abbrev cJ25_requireNonNull : ByteArray := prog_52_method_10_code
def yJ25_requireNonNull : MethodName := ⟨RJ25, "requireNonNull", "(Ljava/lang/Object;)Ljava/lang/Object;"⟩
abbrev cJ25_checkIndex : ByteArray := prog_52_method_17_code
def yJ25_checkIndex : MethodName := ⟨RJ25, "checkIndex", "(II)I"⟩
theorem q93 : (Jvm.Cond.initialized "java/util/Objects") ∈ lw_all := lw_g (lw_at lw_m1 34 rfl) rfl
theorem q972 : (Jvm.Cond.static ({ cls := "java/util/Objects", name := "requireNonNull", desc := "(Ljava/lang/Object;)Ljava/lang/Object;" } : Jvm.MethodName)) ∈ lw_all := lw_g (lw_at lw_m4 193 rfl) rfl
theorem q973 : (Jvm.Cond.code ({ cls := "java/util/Objects", name := "requireNonNull", desc := "(Ljava/lang/Object;)Ljava/lang/Object;" } : Jvm.MethodName) prog_52_method_10_code (1 : Nat) (Option.some (Jvm.ClassFile.FieldType.object "java/lang/Object"))) ∈ lw_all := lw_g (lw_at lw_m4 194 rfl) rfl
theorem q1287 : (Jvm.Cond.static ({ cls := "java/util/Objects", name := "checkIndex", desc := "(II)I" } : Jvm.MethodName)) ∈ lw_all := lw_g (lw_at lw_m6 28 rfl) rfl
theorem q1288 : (Jvm.Cond.code ({ cls := "java/util/Objects", name := "checkIndex", desc := "(II)I" } : Jvm.MethodName) prog_52_method_17_code (2 : Nat) (Option.some Jvm.ClassFile.FieldType.int)) ∈ lw_all := lw_g (lw_at lw_m6 29 rfl) rfl
theorem q1289 : (Jvm.Cond.methodLink "java/util/Objects" (105 : Nat) ({ cls := "jdk/internal/util/Preconditions", name := "checkIndex", desc := "(IILjava/util/function/BiFunction;)I" } : Jvm.MethodName)) ∈ lw_all := lw_g (lw_at lw_m6 30 rfl) rfl
/-! jdk/internal/misc/Unsafe -/
def RJ26 : String := "jdk/internal/misc/Unsafe"
abbrev cJ26_getLongUnaligned : ByteArray := prog_63_method_334_code
def yJ26_getLongUnaligned : MethodName := ⟨RJ26, "getLongUnaligned", "(Ljava/lang/Object;J)J"⟩
abbrev cJ26_makeLong : ByteArray := prog_63_method_353_code
def yJ26_makeLong : MethodName := ⟨RJ26, "makeLong", "(II)J"⟩
abbrev cJ26_toUnsignedLong : ByteArray := prog_63_method_370_code
def yJ26_toUnsignedLong : MethodName := ⟨RJ26, "toUnsignedLong", "(I)J"⟩
abbrev cJ26_pickPos : ByteArray := prog_63_method_350_code
def yJ26_pickPos : MethodName := ⟨RJ26, "pickPos", "(II)I"⟩
abbrev cJ26_makeLong_2 : ByteArray := prog_63_method_352_code
def yJ26_makeLong_2 : MethodName := ⟨RJ26, "makeLong", "(SSSS)J"⟩
abbrev cJ26_toUnsignedLong_2 : ByteArray := prog_63_method_369_code
def yJ26_toUnsignedLong_2 : MethodName := ⟨RJ26, "toUnsignedLong", "(S)J"⟩
abbrev cJ26_makeLong_3 : ByteArray := prog_63_method_351_code
def yJ26_makeLong_3 : MethodName := ⟨RJ26, "makeLong", "(BBBBBBBB)J"⟩
abbrev cJ26_toUnsignedLong_3 : ByteArray := prog_63_method_368_code
def yJ26_toUnsignedLong_3 : MethodName := ⟨RJ26, "toUnsignedLong", "(B)J"⟩
abbrev cJ26_getIntUnaligned : ByteArray := prog_63_method_336_code
def yJ26_getIntUnaligned : MethodName := ⟨RJ26, "getIntUnaligned", "(Ljava/lang/Object;J)I"⟩
abbrev cJ26_makeInt : ByteArray := prog_63_method_354_code
def yJ26_makeInt : MethodName := ⟨RJ26, "makeInt", "(SS)I"⟩
abbrev cJ26_toUnsignedInt : ByteArray := prog_63_method_367_code
def yJ26_toUnsignedInt : MethodName := ⟨RJ26, "toUnsignedInt", "(S)I"⟩
abbrev cJ26_makeInt_2 : ByteArray := prog_63_method_355_code
def yJ26_makeInt_2 : MethodName := ⟨RJ26, "makeInt", "(BBBB)I"⟩
abbrev cJ26_toUnsignedInt_2 : ByteArray := prog_63_method_366_code
def yJ26_toUnsignedInt_2 : MethodName := ⟨RJ26, "toUnsignedInt", "(B)I"⟩
theorem q94 : (Jvm.Cond.initialized "jdk/internal/misc/Unsafe") ∈ lw_all := lw_g (lw_at lw_m1 35 rfl) rfl
theorem q881 : (Jvm.Cond.selects "jdk/internal/misc/Unsafe" ({ cls := "java/lang/Object", name := "getClass", desc := "()Ljava/lang/Class;" } : Jvm.MethodName) ({ cls := "java/lang/Object", name := "getClass", desc := "()Ljava/lang/Class;" } : Jvm.MethodName)) ∈ lw_all := lw_g (lw_at lw_m4 102 rfl) rfl
theorem q1030 : (Jvm.Cond.laysStatic "jdk/internal/misc/Unsafe" "ARRAY_BYTE_BASE_OFFSET" "I") ∈ lw_tbl := lw_at lw_m5 11 rfl
theorem q1041 : (Jvm.Cond.instanceMethod ({ cls := "jdk/internal/misc/Unsafe", name := "getLongUnaligned", desc := "(Ljava/lang/Object;J)J" } : Jvm.MethodName)) ∈ lw_all := lw_g (lw_at lw_m5 22 rfl) rfl
theorem q1042 : (Jvm.Cond.selects "jdk/internal/misc/Unsafe" ({ cls := "jdk/internal/misc/Unsafe", name := "getLongUnaligned", desc := "(Ljava/lang/Object;J)J" } : Jvm.MethodName) ({ cls := "jdk/internal/misc/Unsafe", name := "getLongUnaligned", desc := "(Ljava/lang/Object;J)J" } : Jvm.MethodName)) ∈ lw_all := lw_g (lw_at lw_m5 23 rfl) rfl
theorem q1043 : (Jvm.Cond.code ({ cls := "jdk/internal/misc/Unsafe", name := "getLongUnaligned", desc := "(Ljava/lang/Object;J)J" } : Jvm.MethodName) prog_63_method_334_code (4 : Nat) (Option.some Jvm.ClassFile.FieldType.long)) ∈ lw_all := lw_g (lw_at lw_m5 24 rfl) rfl
theorem q1044 : (Jvm.Cond.constantLong "jdk/internal/misc/Unsafe" (696 : Nat) (7 : Int64)) ∈ lw_all := lw_g (lw_at lw_m5 25 rfl) rfl
theorem q1045 : (Jvm.Cond.methodLink "jdk/internal/misc/Unsafe" (27 : Nat) ({ cls := "jdk/internal/misc/Unsafe", name := "getLong", desc := "(Ljava/lang/Object;J)J" } : Jvm.MethodName)) ∈ lw_all := lw_g (lw_at lw_m5 26 rfl) rfl
theorem q1046 : (Jvm.Cond.instanceMethod ({ cls := "jdk/internal/misc/Unsafe", name := "getLong", desc := "(Ljava/lang/Object;J)J" } : Jvm.MethodName)) ∈ lw_all := lw_g (lw_at lw_m5 27 rfl) rfl
theorem q1047 : (Jvm.Cond.selects "jdk/internal/misc/Unsafe" ({ cls := "jdk/internal/misc/Unsafe", name := "getLong", desc := "(Ljava/lang/Object;J)J" } : Jvm.MethodName) ({ cls := "jdk/internal/misc/Unsafe", name := "getLong", desc := "(Ljava/lang/Object;J)J" } : Jvm.MethodName)) ∈ lw_all := lw_g (lw_at lw_m5 28 rfl) rfl
theorem q1048 : (Jvm.Cond.native ({ cls := "jdk/internal/misc/Unsafe", name := "getLong", desc := "(Ljava/lang/Object;J)J" } : Jvm.MethodName)) ∈ lw_all := lw_g (lw_at lw_m5 29 rfl) rfl
theorem q1049 : (Jvm.Cond.constantLong "jdk/internal/misc/Unsafe" (349 : Nat) (3 : Int64)) ∈ lw_all := lw_g (lw_at lw_m5 30 rfl) rfl
theorem q1050 : (Jvm.Cond.methodLink "jdk/internal/misc/Unsafe" (17 : Nat) ({ cls := "jdk/internal/misc/Unsafe", name := "getInt", desc := "(Ljava/lang/Object;J)I" } : Jvm.MethodName)) ∈ lw_all := lw_g (lw_at lw_m5 31 rfl) rfl
theorem q1051 : (Jvm.Cond.instanceMethod ({ cls := "jdk/internal/misc/Unsafe", name := "getInt", desc := "(Ljava/lang/Object;J)I" } : Jvm.MethodName)) ∈ lw_all := lw_g (lw_at lw_m5 32 rfl) rfl
theorem q1052 : (Jvm.Cond.selects "jdk/internal/misc/Unsafe" ({ cls := "jdk/internal/misc/Unsafe", name := "getInt", desc := "(Ljava/lang/Object;J)I" } : Jvm.MethodName) ({ cls := "jdk/internal/misc/Unsafe", name := "getInt", desc := "(Ljava/lang/Object;J)I" } : Jvm.MethodName)) ∈ lw_all := lw_g (lw_at lw_m5 33 rfl) rfl
theorem q1053 : (Jvm.Cond.native ({ cls := "jdk/internal/misc/Unsafe", name := "getInt", desc := "(Ljava/lang/Object;J)I" } : Jvm.MethodName)) ∈ lw_all := lw_g (lw_at lw_m5 34 rfl) rfl
theorem q1054 : (Jvm.Cond.constantLong "jdk/internal/misc/Unsafe" (205 : Nat) (4 : Int64)) ∈ lw_all := lw_g (lw_at lw_m5 35 rfl) rfl
theorem q1055 : (Jvm.Cond.methodLink "jdk/internal/misc/Unsafe" (698 : Nat) ({ cls := "jdk/internal/misc/Unsafe", name := "makeLong", desc := "(II)J" } : Jvm.MethodName)) ∈ lw_all := lw_g (lw_at lw_m5 36 rfl) rfl
theorem q1056 : (Jvm.Cond.static ({ cls := "jdk/internal/misc/Unsafe", name := "makeLong", desc := "(II)J" } : Jvm.MethodName)) ∈ lw_all := lw_g (lw_at lw_m5 37 rfl) rfl
theorem q1057 : (Jvm.Cond.code ({ cls := "jdk/internal/misc/Unsafe", name := "makeLong", desc := "(II)J" } : Jvm.MethodName) prog_63_method_353_code (2 : Nat) (Option.some Jvm.ClassFile.FieldType.long)) ∈ lw_all := lw_g (lw_at lw_m5 38 rfl) rfl
theorem q1058 : (Jvm.Cond.methodLink "jdk/internal/misc/Unsafe" (791 : Nat) ({ cls := "jdk/internal/misc/Unsafe", name := "toUnsignedLong", desc := "(I)J" } : Jvm.MethodName)) ∈ lw_all := lw_g (lw_at lw_m5 39 rfl) rfl
theorem q1059 : (Jvm.Cond.static ({ cls := "jdk/internal/misc/Unsafe", name := "toUnsignedLong", desc := "(I)J" } : Jvm.MethodName)) ∈ lw_all := lw_g (lw_at lw_m5 40 rfl) rfl
theorem q1060 : (Jvm.Cond.code ({ cls := "jdk/internal/misc/Unsafe", name := "toUnsignedLong", desc := "(I)J" } : Jvm.MethodName) prog_63_method_370_code (1 : Nat) (Option.some Jvm.ClassFile.FieldType.long)) ∈ lw_all := lw_g (lw_at lw_m5 41 rfl) rfl
theorem q1061 : (Jvm.Cond.constantLong "jdk/internal/misc/Unsafe" (812 : Nat) (4294967295 : Int64)) ∈ lw_all := lw_g (lw_at lw_m5 42 rfl) rfl
theorem q1062 : (Jvm.Cond.methodLink "jdk/internal/misc/Unsafe" (784 : Nat) ({ cls := "jdk/internal/misc/Unsafe", name := "pickPos", desc := "(II)I" } : Jvm.MethodName)) ∈ lw_all := lw_g (lw_at lw_m5 43 rfl) rfl
theorem q1063 : (Jvm.Cond.static ({ cls := "jdk/internal/misc/Unsafe", name := "pickPos", desc := "(II)I" } : Jvm.MethodName)) ∈ lw_all := lw_g (lw_at lw_m5 44 rfl) rfl
theorem q1064 : (Jvm.Cond.code ({ cls := "jdk/internal/misc/Unsafe", name := "pickPos", desc := "(II)I" } : Jvm.MethodName) prog_63_method_350_code (2 : Nat) (Option.some Jvm.ClassFile.FieldType.int)) ∈ lw_all := lw_g (lw_at lw_m5 45 rfl) rfl
theorem q1065 : (Jvm.Cond.fieldLink "jdk/internal/misc/Unsafe" (351 : Nat) "jdk/internal/misc/UnsafeConstants" "BIG_ENDIAN" "Z") ∈ lw_all := lw_g (lw_at lw_m5 46 rfl) rfl
theorem q1067 : (Jvm.Cond.methodLink "jdk/internal/misc/Unsafe" (47 : Nat) ({ cls := "jdk/internal/misc/Unsafe", name := "getShort", desc := "(Ljava/lang/Object;J)S" } : Jvm.MethodName)) ∈ lw_all := lw_g (lw_at lw_m5 48 rfl) rfl
theorem q1068 : (Jvm.Cond.instanceMethod ({ cls := "jdk/internal/misc/Unsafe", name := "getShort", desc := "(Ljava/lang/Object;J)S" } : Jvm.MethodName)) ∈ lw_all := lw_g (lw_at lw_m5 49 rfl) rfl
theorem q1069 : (Jvm.Cond.selects "jdk/internal/misc/Unsafe" ({ cls := "jdk/internal/misc/Unsafe", name := "getShort", desc := "(Ljava/lang/Object;J)S" } : Jvm.MethodName) ({ cls := "jdk/internal/misc/Unsafe", name := "getShort", desc := "(Ljava/lang/Object;J)S" } : Jvm.MethodName)) ∈ lw_all := lw_g (lw_at lw_m5 50 rfl) rfl
theorem q1070 : (Jvm.Cond.native ({ cls := "jdk/internal/misc/Unsafe", name := "getShort", desc := "(Ljava/lang/Object;J)S" } : Jvm.MethodName)) ∈ lw_all := lw_g (lw_at lw_m5 51 rfl) rfl
theorem q1071 : (Jvm.Cond.constantLong "jdk/internal/misc/Unsafe" (203 : Nat) (2 : Int64)) ∈ lw_all := lw_g (lw_at lw_m5 52 rfl) rfl
theorem q1072 : (Jvm.Cond.constantLong "jdk/internal/misc/Unsafe" (702 : Nat) (6 : Int64)) ∈ lw_all := lw_g (lw_at lw_m5 53 rfl) rfl
theorem q1073 : (Jvm.Cond.methodLink "jdk/internal/misc/Unsafe" (704 : Nat) ({ cls := "jdk/internal/misc/Unsafe", name := "makeLong", desc := "(SSSS)J" } : Jvm.MethodName)) ∈ lw_all := lw_g (lw_at lw_m5 54 rfl) rfl
theorem q1074 : (Jvm.Cond.static ({ cls := "jdk/internal/misc/Unsafe", name := "makeLong", desc := "(SSSS)J" } : Jvm.MethodName)) ∈ lw_all := lw_g (lw_at lw_m5 55 rfl) rfl
theorem q1075 : (Jvm.Cond.code ({ cls := "jdk/internal/misc/Unsafe", name := "makeLong", desc := "(SSSS)J" } : Jvm.MethodName) prog_63_method_352_code (4 : Nat) (Option.some Jvm.ClassFile.FieldType.long)) ∈ lw_all := lw_g (lw_at lw_m5 56 rfl) rfl
theorem q1076 : (Jvm.Cond.methodLink "jdk/internal/misc/Unsafe" (788 : Nat) ({ cls := "jdk/internal/misc/Unsafe", name := "toUnsignedLong", desc := "(S)J" } : Jvm.MethodName)) ∈ lw_all := lw_g (lw_at lw_m5 57 rfl) rfl
theorem q1077 : (Jvm.Cond.static ({ cls := "jdk/internal/misc/Unsafe", name := "toUnsignedLong", desc := "(S)J" } : Jvm.MethodName)) ∈ lw_all := lw_g (lw_at lw_m5 58 rfl) rfl
theorem q1078 : (Jvm.Cond.code ({ cls := "jdk/internal/misc/Unsafe", name := "toUnsignedLong", desc := "(S)J" } : Jvm.MethodName) prog_63_method_369_code (1 : Nat) (Option.some Jvm.ClassFile.FieldType.long)) ∈ lw_all := lw_g (lw_at lw_m5 59 rfl) rfl
theorem q1079 : (Jvm.Cond.constantLong "jdk/internal/misc/Unsafe" (810 : Nat) (65535 : Int64)) ∈ lw_all := lw_g (lw_at lw_m5 60 rfl) rfl
theorem q1080 : (Jvm.Cond.methodLink "jdk/internal/misc/Unsafe" (39 : Nat) ({ cls := "jdk/internal/misc/Unsafe", name := "getByte", desc := "(Ljava/lang/Object;J)B" } : Jvm.MethodName)) ∈ lw_all := lw_g (lw_at lw_m5 61 rfl) rfl
theorem q1081 : (Jvm.Cond.instanceMethod ({ cls := "jdk/internal/misc/Unsafe", name := "getByte", desc := "(Ljava/lang/Object;J)B" } : Jvm.MethodName)) ∈ lw_all := lw_g (lw_at lw_m5 62 rfl) rfl
theorem q1082 : (Jvm.Cond.selects "jdk/internal/misc/Unsafe" ({ cls := "jdk/internal/misc/Unsafe", name := "getByte", desc := "(Ljava/lang/Object;J)B" } : Jvm.MethodName) ({ cls := "jdk/internal/misc/Unsafe", name := "getByte", desc := "(Ljava/lang/Object;J)B" } : Jvm.MethodName)) ∈ lw_all := lw_g (lw_at lw_m5 63 rfl) rfl
theorem q1083 : (Jvm.Cond.native ({ cls := "jdk/internal/misc/Unsafe", name := "getByte", desc := "(Ljava/lang/Object;J)B" } : Jvm.MethodName)) ∈ lw_all := lw_g (lw_at lw_m5 64 rfl) rfl
theorem q1084 : (Jvm.Cond.constantLong "jdk/internal/misc/Unsafe" (707 : Nat) (5 : Int64)) ∈ lw_all := lw_g (lw_at lw_m5 65 rfl) rfl
theorem q1085 : (Jvm.Cond.methodLink "jdk/internal/misc/Unsafe" (709 : Nat) ({ cls := "jdk/internal/misc/Unsafe", name := "makeLong", desc := "(BBBBBBBB)J" } : Jvm.MethodName)) ∈ lw_all := lw_g (lw_at lw_m5 66 rfl) rfl
theorem q1086 : (Jvm.Cond.static ({ cls := "jdk/internal/misc/Unsafe", name := "makeLong", desc := "(BBBBBBBB)J" } : Jvm.MethodName)) ∈ lw_all := lw_g (lw_at lw_m5 67 rfl) rfl
theorem q1087 : (Jvm.Cond.code ({ cls := "jdk/internal/misc/Unsafe", name := "makeLong", desc := "(BBBBBBBB)J" } : Jvm.MethodName) prog_63_method_351_code (8 : Nat) (Option.some Jvm.ClassFile.FieldType.long)) ∈ lw_all := lw_g (lw_at lw_m5 68 rfl) rfl
theorem q1088 : (Jvm.Cond.methodLink "jdk/internal/misc/Unsafe" (781 : Nat) ({ cls := "jdk/internal/misc/Unsafe", name := "toUnsignedLong", desc := "(B)J" } : Jvm.MethodName)) ∈ lw_all := lw_g (lw_at lw_m5 69 rfl) rfl
theorem q1089 : (Jvm.Cond.static ({ cls := "jdk/internal/misc/Unsafe", name := "toUnsignedLong", desc := "(B)J" } : Jvm.MethodName)) ∈ lw_all := lw_g (lw_at lw_m5 70 rfl) rfl
theorem q1090 : (Jvm.Cond.code ({ cls := "jdk/internal/misc/Unsafe", name := "toUnsignedLong", desc := "(B)J" } : Jvm.MethodName) prog_63_method_368_code (1 : Nat) (Option.some Jvm.ClassFile.FieldType.long)) ∈ lw_all := lw_g (lw_at lw_m5 71 rfl) rfl
theorem q1091 : (Jvm.Cond.constantLong "jdk/internal/misc/Unsafe" (808 : Nat) (255 : Int64)) ∈ lw_all := lw_g (lw_at lw_m5 72 rfl) rfl
theorem q1112 : (Jvm.Cond.instanceMethod ({ cls := "jdk/internal/misc/Unsafe", name := "getIntUnaligned", desc := "(Ljava/lang/Object;J)I" } : Jvm.MethodName)) ∈ lw_all := lw_g (lw_at lw_m5 93 rfl) rfl
theorem q1113 : (Jvm.Cond.selects "jdk/internal/misc/Unsafe" ({ cls := "jdk/internal/misc/Unsafe", name := "getIntUnaligned", desc := "(Ljava/lang/Object;J)I" } : Jvm.MethodName) ({ cls := "jdk/internal/misc/Unsafe", name := "getIntUnaligned", desc := "(Ljava/lang/Object;J)I" } : Jvm.MethodName)) ∈ lw_all := lw_g (lw_at lw_m5 94 rfl) rfl
theorem q1114 : (Jvm.Cond.code ({ cls := "jdk/internal/misc/Unsafe", name := "getIntUnaligned", desc := "(Ljava/lang/Object;J)I" } : Jvm.MethodName) prog_63_method_336_code (4 : Nat) (Option.some Jvm.ClassFile.FieldType.int)) ∈ lw_all := lw_g (lw_at lw_m5 95 rfl) rfl
theorem q1115 : (Jvm.Cond.methodLink "jdk/internal/misc/Unsafe" (719 : Nat) ({ cls := "jdk/internal/misc/Unsafe", name := "makeInt", desc := "(SS)I" } : Jvm.MethodName)) ∈ lw_all := lw_g (lw_at lw_m5 96 rfl) rfl
theorem q1116 : (Jvm.Cond.static ({ cls := "jdk/internal/misc/Unsafe", name := "makeInt", desc := "(SS)I" } : Jvm.MethodName)) ∈ lw_all := lw_g (lw_at lw_m5 97 rfl) rfl
theorem q1117 : (Jvm.Cond.code ({ cls := "jdk/internal/misc/Unsafe", name := "makeInt", desc := "(SS)I" } : Jvm.MethodName) prog_63_method_354_code (2 : Nat) (Option.some Jvm.ClassFile.FieldType.int)) ∈ lw_all := lw_g (lw_at lw_m5 98 rfl) rfl
theorem q1118 : (Jvm.Cond.methodLink "jdk/internal/misc/Unsafe" (792 : Nat) ({ cls := "jdk/internal/misc/Unsafe", name := "toUnsignedInt", desc := "(S)I" } : Jvm.MethodName)) ∈ lw_all := lw_g (lw_at lw_m5 99 rfl) rfl
theorem q1119 : (Jvm.Cond.static ({ cls := "jdk/internal/misc/Unsafe", name := "toUnsignedInt", desc := "(S)I" } : Jvm.MethodName)) ∈ lw_all := lw_g (lw_at lw_m5 100 rfl) rfl
theorem q1120 : (Jvm.Cond.code ({ cls := "jdk/internal/misc/Unsafe", name := "toUnsignedInt", desc := "(S)I" } : Jvm.MethodName) prog_63_method_367_code (1 : Nat) (Option.some Jvm.ClassFile.FieldType.int)) ∈ lw_all := lw_g (lw_at lw_m5 101 rfl) rfl
theorem q1121 : (Jvm.Cond.constant "jdk/internal/misc/Unsafe" (374 : Nat) (65535 : Int32)) ∈ lw_all := lw_g (lw_at lw_m5 102 rfl) rfl
theorem q1122 : (Jvm.Cond.methodLink "jdk/internal/misc/Unsafe" (723 : Nat) ({ cls := "jdk/internal/misc/Unsafe", name := "makeInt", desc := "(BBBB)I" } : Jvm.MethodName)) ∈ lw_all := lw_g (lw_at lw_m5 103 rfl) rfl
theorem q1123 : (Jvm.Cond.static ({ cls := "jdk/internal/misc/Unsafe", name := "makeInt", desc := "(BBBB)I" } : Jvm.MethodName)) ∈ lw_all := lw_g (lw_at lw_m5 104 rfl) rfl
theorem q1124 : (Jvm.Cond.code ({ cls := "jdk/internal/misc/Unsafe", name := "makeInt", desc := "(BBBB)I" } : Jvm.MethodName) prog_63_method_355_code (4 : Nat) (Option.some Jvm.ClassFile.FieldType.int)) ∈ lw_all := lw_g (lw_at lw_m5 105 rfl) rfl
theorem q1125 : (Jvm.Cond.methodLink "jdk/internal/misc/Unsafe" (796 : Nat) ({ cls := "jdk/internal/misc/Unsafe", name := "toUnsignedInt", desc := "(B)I" } : Jvm.MethodName)) ∈ lw_all := lw_g (lw_at lw_m5 106 rfl) rfl
theorem q1126 : (Jvm.Cond.static ({ cls := "jdk/internal/misc/Unsafe", name := "toUnsignedInt", desc := "(B)I" } : Jvm.MethodName)) ∈ lw_all := lw_g (lw_at lw_m5 107 rfl) rfl
theorem q1127 : (Jvm.Cond.code ({ cls := "jdk/internal/misc/Unsafe", name := "toUnsignedInt", desc := "(B)I" } : Jvm.MethodName) prog_63_method_366_code (1 : Nat) (Option.some Jvm.ClassFile.FieldType.int)) ∈ lw_all := lw_g (lw_at lw_m5 108 rfl) rfl
/-! java/lang/Long -/
def RJ27 : String := "java/lang/Long"
abbrev cJ27_numberOfLeadingZeros : ByteArray := prog_24_method_48_code
def yJ27_numberOfLeadingZeros : MethodName := ⟨RJ27, "numberOfLeadingZeros", "(J)I"⟩
abbrev cJ27_numberOfTrailingZeros : ByteArray := prog_24_method_49_code
def yJ27_numberOfTrailingZeros : MethodName := ⟨RJ27, "numberOfTrailingZeros", "(J)I"⟩
theorem q96 : (Jvm.Cond.initialized "java/lang/Long") ∈ lw_all := lw_g (lw_at lw_m1 37 rfl) rfl
theorem q1095 : (Jvm.Cond.static ({ cls := "java/lang/Long", name := "numberOfLeadingZeros", desc := "(J)I" } : Jvm.MethodName)) ∈ lw_all := lw_g (lw_at lw_m5 76 rfl) rfl
theorem q1096 : (Jvm.Cond.code ({ cls := "java/lang/Long", name := "numberOfLeadingZeros", desc := "(J)I" } : Jvm.MethodName) prog_24_method_48_code (3 : Nat) (Option.some Jvm.ClassFile.FieldType.int)) ∈ lw_all := lw_g (lw_at lw_m5 77 rfl) rfl
theorem q1097 : (Jvm.Cond.methodLink "java/lang/Long" (308 : Nat) ({ cls := "java/lang/Integer", name := "numberOfLeadingZeros", desc := "(I)I" } : Jvm.MethodName)) ∈ lw_all := lw_g (lw_at lw_m5 78 rfl) rfl
theorem q1104 : (Jvm.Cond.static ({ cls := "java/lang/Long", name := "numberOfTrailingZeros", desc := "(J)I" } : Jvm.MethodName)) ∈ lw_all := lw_g (lw_at lw_m5 85 rfl) rfl
theorem q1105 : (Jvm.Cond.code ({ cls := "java/lang/Long", name := "numberOfTrailingZeros", desc := "(J)I" } : Jvm.MethodName) prog_24_method_49_code (3 : Nat) (Option.some Jvm.ClassFile.FieldType.int)) ∈ lw_all := lw_g (lw_at lw_m5 86 rfl) rfl
theorem q1106 : (Jvm.Cond.methodLink "java/lang/Long" (311 : Nat) ({ cls := "java/lang/Integer", name := "numberOfTrailingZeros", desc := "(I)I" } : Jvm.MethodName)) ∈ lw_all := lw_g (lw_at lw_m5 87 rfl) rfl
/-! ExchangeText$Line -/
def RX7 : String := "ExchangeText$Line"
def TX7 : u_T := fun k => match k with
  | 0 => ("ExchangeText$Line", "number", "I", true)
  | 1 => ("ExchangeText$Line", "name", "Ljava/lang/String;", true)
  | _ => ("ExchangeText$Line", "arguments", "Ljava/util/ArrayList;", true)
def tyX7 : Nat → FieldType := fun k => match k with
  | 0 => .int
  | 1 => .object "java/lang/String"
  | _ => .object "java/util/ArrayList"
abbrev wsX70 : List Cond := u_ws RX7 TX7 3
theorem nmX7 : ∀ a, a < 3 → ∀ b, b < 3 → a ≠ b → (TX7 a).2.1 ≠ (TX7 b).2.1 := by decide +kernel
theorem tyX7_ok : ∀ k, k < 3 → parseFieldDescriptor (TX7 k).2.2.1 = some (tyX7 k) := by decide +kernel
abbrev cX7_init : ByteArray := prog_4_method_1_code
def yX7_init : MethodName := ⟨RX7, "<init>", "(ILjava/lang/String;)V"⟩
abbrev cX7_references : ByteArray := prog_4_method_2_code
def yX7_references : MethodName := ⟨RX7, "references", "()Ljava/util/ArrayList;"⟩
abbrev cX7_write : ByteArray := prog_4_method_6_code
def yX7_write : MethodName := ⟨RX7, "write", "(Ljava/lang/StringBuilder;)V"⟩
abbrev cX7_refersTo : ByteArray := prog_4_method_3_code
def yX7_refersTo : MethodName := ⟨RX7, "refersTo", "(I)Z"⟩
abbrev cX7_isPlaced : ByteArray := prog_4_method_4_code
def yX7_isPlaced : MethodName := ⟨RX7, "isPlaced", "()Z"⟩
abbrev cX7_isSame : ByteArray := prog_4_method_5_code
def yX7_isSame : MethodName := ⟨RX7, "isSame", "(LExchangeText$Line;)Z"⟩
theorem q97 : (Jvm.Cond.initialized "ExchangeText$Line") ∈ lw_all := lw_g (lw_at lw_m1 38 rfl) rfl
theorem q864 : (Jvm.Cond.selects "ExchangeText$Line" ({ cls := "java/lang/Object", name := "getClass", desc := "()Ljava/lang/Class;" } : Jvm.MethodName) ({ cls := "java/lang/Object", name := "getClass", desc := "()Ljava/lang/Class;" } : Jvm.MethodName)) ∈ lw_all := lw_g (lw_at lw_m4 85 rfl) rfl
theorem q1187 : (Jvm.Cond.instantiable "ExchangeText$Line" (3 : Nat)) ∈ lw_all := lw_g (lw_at lw_m5 168 rfl) rfl
theorem q1189 : (Jvm.Cond.instanceMethod ({ cls := "ExchangeText$Line", name := "<init>", desc := "(ILjava/lang/String;)V" } : Jvm.MethodName)) ∈ lw_all := lw_g (lw_at lw_m5 170 rfl) rfl
theorem q1190 : (Jvm.Cond.code ({ cls := "ExchangeText$Line", name := "<init>", desc := "(ILjava/lang/String;)V" } : Jvm.MethodName) prog_4_method_1_code (3 : Nat) (Option.none : Option Jvm.ClassFile.FieldType)) ∈ lw_all := lw_g (lw_at lw_m5 171 rfl) rfl
theorem q1191 : (Jvm.Cond.methodLink "ExchangeText$Line" (1 : Nat) ({ cls := "java/lang/Object", name := "<init>", desc := "()V" } : Jvm.MethodName)) ∈ lw_all := lw_g (lw_at lw_m5 172 rfl) rfl
theorem q1192 : (Jvm.Cond.classLink "ExchangeText$Line" (7 : Nat) "java/util/ArrayList") ∈ lw_all := lw_g (lw_at lw_m5 173 rfl) rfl
theorem q1193 : (Jvm.Cond.methodLink "ExchangeText$Line" (9 : Nat) ({ cls := "java/util/ArrayList", name := "<init>", desc := "()V" } : Jvm.MethodName)) ∈ lw_all := lw_g (lw_at lw_m5 174 rfl) rfl
theorem q1194 : (Jvm.Cond.fieldLink "ExchangeText$Line" (16 : Nat) "ExchangeText$Line" "number" "I") ∈ lw_all := lw_g (lw_at lw_m5 175 rfl) rfl
theorem q1196 : (Jvm.Cond.fieldLink "ExchangeText$Line" (20 : Nat) "ExchangeText$Line" "name" "Ljava/lang/String;") ∈ lw_all := lw_g (lw_at lw_m5 177 rfl) rfl
theorem q1198 : (Jvm.Cond.fieldLink "ExchangeText$Line" (10 : Nat) "ExchangeText$Line" "arguments" "Ljava/util/ArrayList;") ∈ lw_all := lw_g (lw_at lw_m5 179 rfl) rfl
theorem q1201 : (Jvm.Cond.laysFinal "ExchangeText$Line" "ExchangeText$Line" "number" "I") ∈ lw_all := lw_g (lw_at lw_m5 182 rfl) rfl
theorem q1202 : (Jvm.Cond.soleField "ExchangeText$Line" "number") ∈ lw_all := lw_g (lw_at lw_m5 183 rfl) rfl
theorem q1203 : (Jvm.Cond.laysFinal "ExchangeText$Line" "ExchangeText$Line" "name" "Ljava/lang/String;") ∈ lw_all := lw_g (lw_at lw_m5 184 rfl) rfl
theorem q1204 : (Jvm.Cond.soleField "ExchangeText$Line" "name") ∈ lw_all := lw_g (lw_at lw_m5 185 rfl) rfl
theorem q1205 : (Jvm.Cond.laysFinal "ExchangeText$Line" "ExchangeText$Line" "arguments" "Ljava/util/ArrayList;") ∈ lw_all := lw_g (lw_at lw_m5 186 rfl) rfl
theorem q1206 : (Jvm.Cond.soleField "ExchangeText$Line" "arguments") ∈ lw_all := lw_g (lw_at lw_m5 187 rfl) rfl
theorem q1207 : (Jvm.Cond.superclass "ExchangeText$Line" "java/lang/Object") ∈ lw_all := lw_g (lw_at lw_m5 188 rfl) rfl
theorem q1249 : (Jvm.Cond.fieldLinkNest "ExchangeText$Line" (65 : Nat) "ExchangeText$Argument" "sort" "LExchangeText$Sort;" "ExchangeText") ∈ lw_tbl := lw_at lw_m5 230 rfl
theorem q1253 : (Jvm.Cond.fieldLinkNest "ExchangeText$Line" (43 : Nat) "ExchangeText$Argument" "items" "[I" "ExchangeText") ∈ lw_tbl := lw_at lw_m5 234 rfl
theorem q1394 : (Jvm.Cond.instanceMethod ({ cls := "ExchangeText$Line", name := "references", desc := "()Ljava/util/ArrayList;" } : Jvm.MethodName)) ∈ lw_all := lw_g (lw_at lw_m6 135 rfl) rfl
theorem q1395 : (Jvm.Cond.selects "ExchangeText$Line" ({ cls := "ExchangeText$Line", name := "references", desc := "()Ljava/util/ArrayList;" } : Jvm.MethodName) ({ cls := "ExchangeText$Line", name := "references", desc := "()Ljava/util/ArrayList;" } : Jvm.MethodName)) ∈ lw_all := lw_g (lw_at lw_m6 136 rfl) rfl
theorem q1396 : (Jvm.Cond.code ({ cls := "ExchangeText$Line", name := "references", desc := "()Ljava/util/ArrayList;" } : Jvm.MethodName) prog_4_method_2_code (5 : Nat) (Option.some (Jvm.ClassFile.FieldType.object "java/util/ArrayList"))) ∈ lw_all := lw_g (lw_at lw_m6 137 rfl) rfl
theorem q1397 : (Jvm.Cond.methodLink "ExchangeText$Line" (24 : Nat) ({ cls := "java/util/ArrayList", name := "iterator", desc := "()Ljava/util/Iterator;" } : Jvm.MethodName)) ∈ lw_all := lw_g (lw_at lw_m6 138 rfl) rfl
theorem q1398 : (Jvm.Cond.interfaceEntry "ExchangeText$Line" (28 : Nat)) ∈ lw_tbl := lw_at lw_m6 139 rfl
theorem q1399 : (Jvm.Cond.methodLink "ExchangeText$Line" (28 : Nat) ({ cls := "java/util/Iterator", name := "hasNext", desc := "()Z" } : Jvm.MethodName)) ∈ lw_all := lw_g (lw_at lw_m6 140 rfl) rfl
theorem q1400 : (Jvm.Cond.interfaceEntry "ExchangeText$Line" (34 : Nat)) ∈ lw_tbl := lw_at lw_m6 141 rfl
theorem q1401 : (Jvm.Cond.methodLink "ExchangeText$Line" (34 : Nat) ({ cls := "java/util/Iterator", name := "next", desc := "()Ljava/lang/Object;" } : Jvm.MethodName)) ∈ lw_all := lw_g (lw_at lw_m6 142 rfl) rfl
theorem q1402 : (Jvm.Cond.classLink "ExchangeText$Line" (38 : Nat) "ExchangeText$Argument") ∈ lw_all := lw_g (lw_at lw_m6 143 rfl) rfl
theorem q1403 : (Jvm.Cond.methodLink "ExchangeText$Line" (40 : Nat) ({ cls := "ExchangeText$Argument", name := "refers", desc := "()Z" } : Jvm.MethodName)) ∈ lw_all := lw_g (lw_at lw_m6 144 rfl) rfl
theorem q1409 : (Jvm.Cond.methodLink "ExchangeText$Line" (47 : Nat) ({ cls := "java/lang/Integer", name := "valueOf", desc := "(I)Ljava/lang/Integer;" } : Jvm.MethodName)) ∈ lw_all := lw_g (lw_at lw_m6 150 rfl) rfl
theorem q1410 : (Jvm.Cond.methodLink "ExchangeText$Line" (53 : Nat) ({ cls := "java/util/ArrayList", name := "add", desc := "(Ljava/lang/Object;)Z" } : Jvm.MethodName)) ∈ lw_all := lw_g (lw_at lw_m6 151 rfl) rfl
theorem q1484 : (Jvm.Cond.instanceMethod ({ cls := "ExchangeText$Line", name := "write", desc := "(Ljava/lang/StringBuilder;)V" } : Jvm.MethodName)) ∈ lw_all := lw_g (lw_at lw_m6 225 rfl) rfl
theorem q1485 : (Jvm.Cond.selects "ExchangeText$Line" ({ cls := "ExchangeText$Line", name := "write", desc := "(Ljava/lang/StringBuilder;)V" } : Jvm.MethodName) ({ cls := "ExchangeText$Line", name := "write", desc := "(Ljava/lang/StringBuilder;)V" } : Jvm.MethodName)) ∈ lw_all := lw_g (lw_at lw_m6 226 rfl) rfl
theorem q1486 : (Jvm.Cond.code ({ cls := "ExchangeText$Line", name := "write", desc := "(Ljava/lang/StringBuilder;)V" } : Jvm.MethodName) prog_4_method_6_code (3 : Nat) (Option.none : Option Jvm.ClassFile.FieldType)) ∈ lw_all := lw_g (lw_at lw_m6 227 rfl) rfl
theorem q1487 : (Jvm.Cond.methodLink "ExchangeText$Line" (89 : Nat) ({ cls := "java/lang/StringBuilder", name := "append", desc := "(C)Ljava/lang/StringBuilder;" } : Jvm.MethodName)) ∈ lw_all := lw_g (lw_at lw_m6 228 rfl) rfl
theorem q1488 : (Jvm.Cond.methodLink "ExchangeText$Line" (95 : Nat) ({ cls := "java/lang/StringBuilder", name := "append", desc := "(I)Ljava/lang/StringBuilder;" } : Jvm.MethodName)) ∈ lw_all := lw_g (lw_at lw_m6 229 rfl) rfl
theorem q1489 : (Jvm.Cond.methodLink "ExchangeText$Line" (98 : Nat) ({ cls := "java/lang/StringBuilder", name := "append", desc := "(Ljava/lang/String;)Ljava/lang/StringBuilder;" } : Jvm.MethodName)) ∈ lw_all := lw_g (lw_at lw_m6 230 rfl) rfl
theorem q1490 : (Jvm.Cond.methodLink "ExchangeText$Line" (57 : Nat) ({ cls := "java/util/ArrayList", name := "size", desc := "()I" } : Jvm.MethodName)) ∈ lw_all := lw_g (lw_at lw_m6 231 rfl) rfl
theorem q1491 : (Jvm.Cond.stringRef "ExchangeText$Line" (101 : Nat) ",") ∈ lw_tbl := lw_at lw_m6 232 rfl
theorem q1492 : (Jvm.Cond.stringRef "ExchangeText$Line" (103 : Nat) "") ∈ lw_tbl := lw_at lw_m6 233 rfl
theorem q1493 : (Jvm.Cond.methodLink "ExchangeText$Line" (61 : Nat) ({ cls := "java/util/ArrayList", name := "get", desc := "(I)Ljava/lang/Object;" } : Jvm.MethodName)) ∈ lw_all := lw_g (lw_at lw_m6 234 rfl) rfl
theorem q1494 : (Jvm.Cond.methodLink "ExchangeText$Line" (105 : Nat) ({ cls := "ExchangeText$Argument", name := "write", desc := "(Ljava/lang/StringBuilder;)V" } : Jvm.MethodName)) ∈ lw_all := lw_g (lw_at lw_m6 235 rfl) rfl
theorem q1525 : (Jvm.Cond.stringRef "ExchangeText$Line" (109 : Nat) ");") ∈ lw_tbl := lw_at lw_m7 26 rfl
theorem q1866 : (Jvm.Cond.instanceMethod ({ cls := "ExchangeText$Line", name := "refersTo", desc := "(I)Z" } : Jvm.MethodName)) ∈ lw_all := lw_g (lw_at lw_m8 127 rfl) rfl
theorem q1867 : (Jvm.Cond.selects "ExchangeText$Line" ({ cls := "ExchangeText$Line", name := "refersTo", desc := "(I)Z" } : Jvm.MethodName) ({ cls := "ExchangeText$Line", name := "refersTo", desc := "(I)Z" } : Jvm.MethodName)) ∈ lw_all := lw_g (lw_at lw_m8 128 rfl) rfl
theorem q1868 : (Jvm.Cond.code ({ cls := "ExchangeText$Line", name := "refersTo", desc := "(I)Z" } : Jvm.MethodName) prog_4_method_3_code (6 : Nat) (Option.some Jvm.ClassFile.FieldType.boolean)) ∈ lw_all := lw_g (lw_at lw_m8 129 rfl) rfl
theorem q1900 : (Jvm.Cond.instanceMethod ({ cls := "ExchangeText$Line", name := "isPlaced", desc := "()Z" } : Jvm.MethodName)) ∈ lw_all := lw_g (lw_at lw_m8 161 rfl) rfl
theorem q1901 : (Jvm.Cond.selects "ExchangeText$Line" ({ cls := "ExchangeText$Line", name := "isPlaced", desc := "()Z" } : Jvm.MethodName) ({ cls := "ExchangeText$Line", name := "isPlaced", desc := "()Z" } : Jvm.MethodName)) ∈ lw_all := lw_g (lw_at lw_m8 162 rfl) rfl
theorem q1902 : (Jvm.Cond.code ({ cls := "ExchangeText$Line", name := "isPlaced", desc := "()Z" } : Jvm.MethodName) prog_4_method_4_code (3 : Nat) (Option.some Jvm.ClassFile.FieldType.boolean)) ∈ lw_all := lw_g (lw_at lw_m8 163 rfl) rfl
theorem q1903 : (Jvm.Cond.fieldLink "ExchangeText$Line" (69 : Nat) "ExchangeText$Sort" "REFERENCE" "LExchangeText$Sort;") ∈ lw_all := lw_g (lw_at lw_m8 164 rfl) rfl
theorem q1904 : (Jvm.Cond.fieldLink "ExchangeText$Line" (74 : Nat) "ExchangeText$Sort" "NOTHING" "LExchangeText$Sort;") ∈ lw_all := lw_g (lw_at lw_m8 165 rfl) rfl
theorem q1905 : (Jvm.Cond.fieldLink "ExchangeText$Line" (77 : Nat) "ExchangeText$Sort" "NUMBER" "LExchangeText$Sort;") ∈ lw_all := lw_g (lw_at lw_m8 166 rfl) rfl
theorem q1922 : (Jvm.Cond.instanceMethod ({ cls := "ExchangeText$Line", name := "isSame", desc := "(LExchangeText$Line;)Z" } : Jvm.MethodName)) ∈ lw_all := lw_g (lw_at lw_m8 183 rfl) rfl
theorem q1923 : (Jvm.Cond.selects "ExchangeText$Line" ({ cls := "ExchangeText$Line", name := "isSame", desc := "(LExchangeText$Line;)Z" } : Jvm.MethodName) ({ cls := "ExchangeText$Line", name := "isSame", desc := "(LExchangeText$Line;)Z" } : Jvm.MethodName)) ∈ lw_all := lw_g (lw_at lw_m8 184 rfl) rfl
theorem q1924 : (Jvm.Cond.code ({ cls := "ExchangeText$Line", name := "isSame", desc := "(LExchangeText$Line;)Z" } : Jvm.MethodName) prog_4_method_5_code (4 : Nat) (Option.some Jvm.ClassFile.FieldType.boolean)) ∈ lw_all := lw_g (lw_at lw_m8 185 rfl) rfl
theorem q1925 : (Jvm.Cond.methodLink "ExchangeText$Line" (80 : Nat) ({ cls := "java/lang/String", name := "equals", desc := "(Ljava/lang/Object;)Z" } : Jvm.MethodName)) ∈ lw_all := lw_g (lw_at lw_m8 186 rfl) rfl
theorem q1926 : (Jvm.Cond.methodLink "ExchangeText$Line" (85 : Nat) ({ cls := "ExchangeText$Argument", name := "isSame", desc := "(LExchangeText$Argument;)Z" } : Jvm.MethodName)) ∈ lw_all := lw_g (lw_at lw_m8 187 rfl) rfl
theorem q2282 : (Jvm.Cond.castable "ExchangeText$Line" "java/lang/Object") ∈ lw_tbl := lw_at lw_m10 63 rfl
theorem in_X7 : ∀ w ∈ wsX70, w ∈ lw_all := lw_in wsX70 [1201, 1203, 1205] (by decide +kernel) (by decide +kernel)
/-! java/lang/Record -/
def RJ28 : String := "java/lang/Record"
abbrev cJ28_init : ByteArray := prog_27_method_1_code
def yJ28_init : MethodName := ⟨RJ28, "<init>", "()V"⟩
theorem q98 : (Jvm.Cond.initialized "java/lang/Record") ∈ lw_all := lw_g (lw_at lw_m1 39 rfl) rfl
theorem q1244 : (Jvm.Cond.instanceMethod ({ cls := "java/lang/Record", name := "<init>", desc := "()V" } : Jvm.MethodName)) ∈ lw_all := lw_g (lw_at lw_m5 225 rfl) rfl
theorem q1245 : (Jvm.Cond.code ({ cls := "java/lang/Record", name := "<init>", desc := "()V" } : Jvm.MethodName) prog_27_method_1_code (1 : Nat) (Option.none : Option Jvm.ClassFile.FieldType)) ∈ lw_all := lw_g (lw_at lw_m5 226 rfl) rfl
theorem q1246 : (Jvm.Cond.methodLink "java/lang/Record" (1 : Nat) ({ cls := "java/lang/Object", name := "<init>", desc := "()V" } : Jvm.MethodName)) ∈ lw_all := lw_g (lw_at lw_m5 227 rfl) rfl
/-! ExchangeText$Argument -/
def RX8 : String := "ExchangeText$Argument"
def TX8 : u_T := fun k => match k with
  | 0 => ("ExchangeText$Argument", "sort", "LExchangeText$Sort;", true)
  | 1 => ("ExchangeText$Argument", "text", "Ljava/lang/String;", true)
  | _ => ("ExchangeText$Argument", "items", "[I", true)
def tyX8 : Nat → FieldType := fun k => match k with
  | 0 => .object "ExchangeText$Sort"
  | 1 => .object "java/lang/String"
  | _ => .array .int
abbrev wsX80 : List Cond := u_ws RX8 TX8 3
theorem nmX8 : ∀ a, a < 3 → ∀ b, b < 3 → a ≠ b → (TX8 a).2.1 ≠ (TX8 b).2.1 := by decide +kernel
theorem tyX8_ok : ∀ k, k < 3 → parseFieldDescriptor (TX8 k).2.2.1 = some (tyX8 k) := by decide +kernel
abbrev cX8_init : ByteArray := prog_2_method_1_code
def yX8_init : MethodName := ⟨RX8, "<init>", "(LExchangeText$Sort;Ljava/lang/String;[I)V"⟩
abbrev cX8_of : ByteArray := prog_2_method_2_code
def yX8_of : MethodName := ⟨RX8, "of", "(LExchangeText$Sort;I)LExchangeText$Argument;"⟩
abbrev cX8_refers : ByteArray := prog_2_method_3_code
def yX8_refers : MethodName := ⟨RX8, "refers", "()Z"⟩
abbrev cX8_write : ByteArray := prog_2_method_9_code
def yX8_write : MethodName := ⟨RX8, "write", "(Ljava/lang/StringBuilder;)V"⟩
abbrev cX8_moved : ByteArray := prog_2_method_8_code
def yX8_moved : MethodName := ⟨RX8, "moved", "([I)LExchangeText$Argument;"⟩
abbrev cX8_size : ByteArray := prog_2_method_5_code
def yX8_size : MethodName := ⟨RX8, "size", "()I"⟩
abbrev cX8_isText : ByteArray := prog_2_method_4_code
def yX8_isText : MethodName := ⟨RX8, "isText", "()Z"⟩
abbrev cX8_item : ByteArray := prog_2_method_6_code
def yX8_item : MethodName := ⟨RX8, "item", "(I)I"⟩
abbrev cX8_isSame : ByteArray := prog_2_method_7_code
def yX8_isSame : MethodName := ⟨RX8, "isSame", "(LExchangeText$Argument;)Z"⟩
theorem q99 : (Jvm.Cond.initialized "ExchangeText$Argument") ∈ lw_all := lw_g (lw_at lw_m1 40 rfl) rfl
theorem q862 : (Jvm.Cond.selects "ExchangeText$Argument" ({ cls := "java/lang/Object", name := "getClass", desc := "()Ljava/lang/Class;" } : Jvm.MethodName) ({ cls := "java/lang/Object", name := "getClass", desc := "()Ljava/lang/Class;" } : Jvm.MethodName)) ∈ lw_all := lw_g (lw_at lw_m4 83 rfl) rfl
theorem q1236 : (Jvm.Cond.instantiable "ExchangeText$Argument" (3 : Nat)) ∈ lw_all := lw_g (lw_at lw_m5 217 rfl) rfl
theorem q1241 : (Jvm.Cond.instanceMethod ({ cls := "ExchangeText$Argument", name := "<init>", desc := "(LExchangeText$Sort;Ljava/lang/String;[I)V" } : Jvm.MethodName)) ∈ lw_all := lw_g (lw_at lw_m5 222 rfl) rfl
theorem q1242 : (Jvm.Cond.code ({ cls := "ExchangeText$Argument", name := "<init>", desc := "(LExchangeText$Sort;Ljava/lang/String;[I)V" } : Jvm.MethodName) prog_2_method_1_code (4 : Nat) (Option.none : Option Jvm.ClassFile.FieldType)) ∈ lw_all := lw_g (lw_at lw_m5 223 rfl) rfl
theorem q1243 : (Jvm.Cond.methodLink "ExchangeText$Argument" (1 : Nat) ({ cls := "java/lang/Record", name := "<init>", desc := "()V" } : Jvm.MethodName)) ∈ lw_all := lw_g (lw_at lw_m5 224 rfl) rfl
theorem q1247 : (Jvm.Cond.fieldLink "ExchangeText$Argument" (7 : Nat) "ExchangeText$Argument" "sort" "LExchangeText$Sort;") ∈ lw_all := lw_g (lw_at lw_m5 228 rfl) rfl
theorem q1251 : (Jvm.Cond.fieldLink "ExchangeText$Argument" (13 : Nat) "ExchangeText$Argument" "text" "Ljava/lang/String;") ∈ lw_all := lw_g (lw_at lw_m5 232 rfl) rfl
theorem q1252 : (Jvm.Cond.fieldLink "ExchangeText$Argument" (17 : Nat) "ExchangeText$Argument" "items" "[I") ∈ lw_all := lw_g (lw_at lw_m5 233 rfl) rfl
theorem q1256 : (Jvm.Cond.laysFinal "ExchangeText$Argument" "ExchangeText$Argument" "sort" "LExchangeText$Sort;") ∈ lw_all := lw_g (lw_at lw_m5 237 rfl) rfl
theorem q1257 : (Jvm.Cond.soleField "ExchangeText$Argument" "sort") ∈ lw_all := lw_g (lw_at lw_m5 238 rfl) rfl
theorem q1258 : (Jvm.Cond.laysFinal "ExchangeText$Argument" "ExchangeText$Argument" "text" "Ljava/lang/String;") ∈ lw_all := lw_g (lw_at lw_m5 239 rfl) rfl
theorem q1259 : (Jvm.Cond.soleField "ExchangeText$Argument" "text") ∈ lw_all := lw_g (lw_at lw_m6 0 rfl) rfl
theorem q1260 : (Jvm.Cond.laysFinal "ExchangeText$Argument" "ExchangeText$Argument" "items" "[I") ∈ lw_all := lw_g (lw_at lw_m6 1 rfl) rfl
theorem q1261 : (Jvm.Cond.soleField "ExchangeText$Argument" "items") ∈ lw_all := lw_g (lw_at lw_m6 2 rfl) rfl
theorem q1262 : (Jvm.Cond.superclass "ExchangeText$Argument" "java/lang/Record") ∈ lw_all := lw_g (lw_at lw_m6 3 rfl) rfl
theorem q1271 : (Jvm.Cond.static ({ cls := "ExchangeText$Argument", name := "of", desc := "(LExchangeText$Sort;I)LExchangeText$Argument;" } : Jvm.MethodName)) ∈ lw_all := lw_g (lw_at lw_m6 12 rfl) rfl
theorem q1272 : (Jvm.Cond.code ({ cls := "ExchangeText$Argument", name := "of", desc := "(LExchangeText$Sort;I)LExchangeText$Argument;" } : Jvm.MethodName) prog_2_method_2_code (2 : Nat) (Option.some (Jvm.ClassFile.FieldType.object "ExchangeText$Argument"))) ∈ lw_all := lw_g (lw_at lw_m6 13 rfl) rfl
theorem q1273 : (Jvm.Cond.classLink "ExchangeText$Argument" (8 : Nat) "ExchangeText$Argument") ∈ lw_all := lw_g (lw_at lw_m6 14 rfl) rfl
theorem q1274 : (Jvm.Cond.stringRef "ExchangeText$Argument" (21 : Nat) "") ∈ lw_tbl := lw_at lw_m6 15 rfl
theorem q1275 : (Jvm.Cond.methodLink "ExchangeText$Argument" (23 : Nat) ({ cls := "ExchangeText$Argument", name := "<init>", desc := "(LExchangeText$Sort;Ljava/lang/String;[I)V" } : Jvm.MethodName)) ∈ lw_all := lw_g (lw_at lw_m6 16 rfl) rfl
theorem q1404 : (Jvm.Cond.instanceMethod ({ cls := "ExchangeText$Argument", name := "refers", desc := "()Z" } : Jvm.MethodName)) ∈ lw_all := lw_g (lw_at lw_m6 145 rfl) rfl
theorem q1405 : (Jvm.Cond.selects "ExchangeText$Argument" ({ cls := "ExchangeText$Argument", name := "refers", desc := "()Z" } : Jvm.MethodName) ({ cls := "ExchangeText$Argument", name := "refers", desc := "()Z" } : Jvm.MethodName)) ∈ lw_all := lw_g (lw_at lw_m6 146 rfl) rfl
theorem q1406 : (Jvm.Cond.code ({ cls := "ExchangeText$Argument", name := "refers", desc := "()Z" } : Jvm.MethodName) prog_2_method_3_code (1 : Nat) (Option.some Jvm.ClassFile.FieldType.boolean)) ∈ lw_all := lw_g (lw_at lw_m6 147 rfl) rfl
theorem q1407 : (Jvm.Cond.fieldLink "ExchangeText$Argument" (26 : Nat) "ExchangeText$Sort" "REFERENCE" "LExchangeText$Sort;") ∈ lw_all := lw_g (lw_at lw_m6 148 rfl) rfl
theorem q1408 : (Jvm.Cond.fieldLink "ExchangeText$Argument" (31 : Nat) "ExchangeText$Sort" "REFERENCES" "LExchangeText$Sort;") ∈ lw_all := lw_g (lw_at lw_m6 149 rfl) rfl
theorem q1495 : (Jvm.Cond.instanceMethod ({ cls := "ExchangeText$Argument", name := "write", desc := "(Ljava/lang/StringBuilder;)V" } : Jvm.MethodName)) ∈ lw_all := lw_g (lw_at lw_m6 236 rfl) rfl
theorem q1496 : (Jvm.Cond.selects "ExchangeText$Argument" ({ cls := "ExchangeText$Argument", name := "write", desc := "(Ljava/lang/StringBuilder;)V" } : Jvm.MethodName) ({ cls := "ExchangeText$Argument", name := "write", desc := "(Ljava/lang/StringBuilder;)V" } : Jvm.MethodName)) ∈ lw_all := lw_g (lw_at lw_m6 237 rfl) rfl
theorem q1497 : (Jvm.Cond.code ({ cls := "ExchangeText$Argument", name := "write", desc := "(Ljava/lang/StringBuilder;)V" } : Jvm.MethodName) prog_2_method_9_code (4 : Nat) (Option.none : Option Jvm.ClassFile.FieldType)) ∈ lw_all := lw_g (lw_at lw_m6 238 rfl) rfl
theorem q1498 : (Jvm.Cond.methodLink "ExchangeText$Argument" (64 : Nat) ({ cls := "ExchangeText$Sort", name := "ordinal", desc := "()I" } : Jvm.MethodName)) ∈ lw_all := lw_g (lw_at lw_m6 239 rfl) rfl
theorem q1504 : (Jvm.Cond.methodLink "ExchangeText$Argument" (67 : Nat) ({ cls := "java/lang/StringBuilder", name := "append", desc := "(C)Ljava/lang/StringBuilder;" } : Jvm.MethodName)) ∈ lw_all := lw_g (lw_at lw_m7 5 rfl) rfl
theorem q1505 : (Jvm.Cond.methodLink "ExchangeText$Argument" (44 : Nat) ({ cls := "java/lang/String", name := "length", desc := "()I" } : Jvm.MethodName)) ∈ lw_all := lw_g (lw_at lw_m7 6 rfl) rfl
theorem q1506 : (Jvm.Cond.methodLink "ExchangeText$Argument" (50 : Nat) ({ cls := "java/lang/String", name := "charAt", desc := "(I)C" } : Jvm.MethodName)) ∈ lw_all := lw_g (lw_at lw_m7 7 rfl) rfl
theorem q1517 : (Jvm.Cond.methodLink "ExchangeText$Argument" (73 : Nat) ({ cls := "java/lang/StringBuilder", name := "append", desc := "(Ljava/lang/String;)Ljava/lang/StringBuilder;" } : Jvm.MethodName)) ∈ lw_all := lw_g (lw_at lw_m7 18 rfl) rfl
theorem q1518 : (Jvm.Cond.fieldLink "ExchangeText$Argument" (76 : Nat) "ExchangeText$Sort" "NUMBERS" "LExchangeText$Sort;") ∈ lw_all := lw_g (lw_at lw_m7 19 rfl) rfl
theorem q1519 : (Jvm.Cond.stringRef "ExchangeText$Argument" (79 : Nat) "(") ∈ lw_tbl := lw_at lw_m7 20 rfl
theorem q1520 : (Jvm.Cond.stringRef "ExchangeText$Argument" (81 : Nat) ",") ∈ lw_tbl := lw_at lw_m7 21 rfl
theorem q1521 : (Jvm.Cond.methodLink "ExchangeText$Argument" (61 : Nat) ({ cls := "ExchangeText$Argument", name := "refers", desc := "()Z" } : Jvm.MethodName)) ∈ lw_all := lw_g (lw_at lw_m7 22 rfl) rfl
theorem q1522 : (Jvm.Cond.stringRef "ExchangeText$Argument" (83 : Nat) "#") ∈ lw_tbl := lw_at lw_m7 23 rfl
theorem q1523 : (Jvm.Cond.methodLink "ExchangeText$Argument" (85 : Nat) ({ cls := "java/lang/StringBuilder", name := "append", desc := "(I)Ljava/lang/StringBuilder;" } : Jvm.MethodName)) ∈ lw_all := lw_g (lw_at lw_m7 24 rfl) rfl
theorem q1524 : (Jvm.Cond.stringRef "ExchangeText$Argument" (88 : Nat) ")") ∈ lw_tbl := lw_at lw_m7 25 rfl
theorem q1696 : (Jvm.Cond.instanceMethod ({ cls := "ExchangeText$Argument", name := "moved", desc := "([I)LExchangeText$Argument;" } : Jvm.MethodName)) ∈ lw_all := lw_g (lw_at lw_m7 197 rfl) rfl
theorem q1697 : (Jvm.Cond.selects "ExchangeText$Argument" ({ cls := "ExchangeText$Argument", name := "moved", desc := "([I)LExchangeText$Argument;" } : Jvm.MethodName) ({ cls := "ExchangeText$Argument", name := "moved", desc := "([I)LExchangeText$Argument;" } : Jvm.MethodName)) ∈ lw_all := lw_g (lw_at lw_m7 198 rfl) rfl
theorem q1698 : (Jvm.Cond.code ({ cls := "ExchangeText$Argument", name := "moved", desc := "([I)LExchangeText$Argument;" } : Jvm.MethodName) prog_2_method_8_code (4 : Nat) (Option.some (Jvm.ClassFile.FieldType.object "ExchangeText$Argument"))) ∈ lw_all := lw_g (lw_at lw_m7 199 rfl) rfl
theorem q1800 : (Jvm.Cond.instanceMethod ({ cls := "ExchangeText$Argument", name := "size", desc := "()I" } : Jvm.MethodName)) ∈ lw_all := lw_g (lw_at lw_m8 61 rfl) rfl
theorem q1801 : (Jvm.Cond.selects "ExchangeText$Argument" ({ cls := "ExchangeText$Argument", name := "size", desc := "()I" } : Jvm.MethodName) ({ cls := "ExchangeText$Argument", name := "size", desc := "()I" } : Jvm.MethodName)) ∈ lw_all := lw_g (lw_at lw_m8 62 rfl) rfl
theorem q1802 : (Jvm.Cond.code ({ cls := "ExchangeText$Argument", name := "size", desc := "()I" } : Jvm.MethodName) prog_2_method_5_code (1 : Nat) (Option.some Jvm.ClassFile.FieldType.int)) ∈ lw_all := lw_g (lw_at lw_m8 63 rfl) rfl
theorem q1803 : (Jvm.Cond.methodLink "ExchangeText$Argument" (40 : Nat) ({ cls := "ExchangeText$Argument", name := "isText", desc := "()Z" } : Jvm.MethodName)) ∈ lw_all := lw_g (lw_at lw_m8 64 rfl) rfl
theorem q1804 : (Jvm.Cond.instanceMethod ({ cls := "ExchangeText$Argument", name := "isText", desc := "()Z" } : Jvm.MethodName)) ∈ lw_all := lw_g (lw_at lw_m8 65 rfl) rfl
theorem q1805 : (Jvm.Cond.selects "ExchangeText$Argument" ({ cls := "ExchangeText$Argument", name := "isText", desc := "()Z" } : Jvm.MethodName) ({ cls := "ExchangeText$Argument", name := "isText", desc := "()Z" } : Jvm.MethodName)) ∈ lw_all := lw_g (lw_at lw_m8 66 rfl) rfl
theorem q1806 : (Jvm.Cond.code ({ cls := "ExchangeText$Argument", name := "isText", desc := "()Z" } : Jvm.MethodName) prog_2_method_4_code (1 : Nat) (Option.some Jvm.ClassFile.FieldType.boolean)) ∈ lw_all := lw_g (lw_at lw_m8 67 rfl) rfl
theorem q1807 : (Jvm.Cond.fieldLink "ExchangeText$Argument" (34 : Nat) "ExchangeText$Sort" "TEXT" "LExchangeText$Sort;") ∈ lw_all := lw_g (lw_at lw_m8 68 rfl) rfl
theorem q1808 : (Jvm.Cond.fieldLink "ExchangeText$Argument" (37 : Nat) "ExchangeText$Sort" "WORD" "LExchangeText$Sort;") ∈ lw_all := lw_g (lw_at lw_m8 69 rfl) rfl
theorem q1817 : (Jvm.Cond.instanceMethod ({ cls := "ExchangeText$Argument", name := "item", desc := "(I)I" } : Jvm.MethodName)) ∈ lw_all := lw_g (lw_at lw_m8 78 rfl) rfl
theorem q1818 : (Jvm.Cond.selects "ExchangeText$Argument" ({ cls := "ExchangeText$Argument", name := "item", desc := "(I)I" } : Jvm.MethodName) ({ cls := "ExchangeText$Argument", name := "item", desc := "(I)I" } : Jvm.MethodName)) ∈ lw_all := lw_g (lw_at lw_m8 79 rfl) rfl
theorem q1819 : (Jvm.Cond.code ({ cls := "ExchangeText$Argument", name := "item", desc := "(I)I" } : Jvm.MethodName) prog_2_method_6_code (2 : Nat) (Option.some Jvm.ClassFile.FieldType.int)) ∈ lw_all := lw_g (lw_at lw_m8 80 rfl) rfl
theorem q1927 : (Jvm.Cond.instanceMethod ({ cls := "ExchangeText$Argument", name := "isSame", desc := "(LExchangeText$Argument;)Z" } : Jvm.MethodName)) ∈ lw_all := lw_g (lw_at lw_m8 188 rfl) rfl
theorem q1928 : (Jvm.Cond.selects "ExchangeText$Argument" ({ cls := "ExchangeText$Argument", name := "isSame", desc := "(LExchangeText$Argument;)Z" } : Jvm.MethodName) ({ cls := "ExchangeText$Argument", name := "isSame", desc := "(LExchangeText$Argument;)Z" } : Jvm.MethodName)) ∈ lw_all := lw_g (lw_at lw_m8 189 rfl) rfl
theorem q1929 : (Jvm.Cond.code ({ cls := "ExchangeText$Argument", name := "isSame", desc := "(LExchangeText$Argument;)Z" } : Jvm.MethodName) prog_2_method_7_code (4 : Nat) (Option.some Jvm.ClassFile.FieldType.boolean)) ∈ lw_all := lw_g (lw_at lw_m8 190 rfl) rfl
theorem q1930 : (Jvm.Cond.methodLink "ExchangeText$Argument" (54 : Nat) ({ cls := "ExchangeText$Argument", name := "size", desc := "()I" } : Jvm.MethodName)) ∈ lw_all := lw_g (lw_at lw_m8 191 rfl) rfl
theorem q1931 : (Jvm.Cond.methodLink "ExchangeText$Argument" (57 : Nat) ({ cls := "ExchangeText$Argument", name := "item", desc := "(I)I" } : Jvm.MethodName)) ∈ lw_all := lw_g (lw_at lw_m8 192 rfl) rfl
theorem q2300 : (Jvm.Cond.castable "ExchangeText$Argument" "java/lang/Object") ∈ lw_tbl := lw_at lw_m10 81 rfl
theorem in_X8 : ∀ w ∈ wsX80, w ∈ lw_all := lw_in wsX80 [1256, 1258, 1260] (by decide +kernel) (by decide +kernel)
/-! java/util/TreeMap$Entry -/
def RJ29 : String := "java/util/TreeMap$Entry"
def TJ29 : u_T := fun k => match k with
  | 0 => ("java/util/TreeMap$Entry", "key", "Ljava/lang/Object;", false)
  | 1 => ("java/util/TreeMap$Entry", "value", "Ljava/lang/Object;", false)
  | 2 => ("java/util/TreeMap$Entry", "left", "Ljava/util/TreeMap$Entry;", false)
  | 3 => ("java/util/TreeMap$Entry", "right", "Ljava/util/TreeMap$Entry;", false)
  | 4 => ("java/util/TreeMap$Entry", "parent", "Ljava/util/TreeMap$Entry;", false)
  | _ => ("java/util/TreeMap$Entry", "color", "Z", false)
def tyJ29 : Nat → FieldType := fun k => match k with
  | 0 => .object "java/lang/Object"
  | 1 => .object "java/lang/Object"
  | 2 => .object "java/util/TreeMap$Entry"
  | 3 => .object "java/util/TreeMap$Entry"
  | 4 => .object "java/util/TreeMap$Entry"
  | _ => .boolean
abbrev wsJ290 : List Cond := u_ws RJ29 TJ29 6
theorem nmJ29 : ∀ a, a < 6 → ∀ b, b < 6 → a ≠ b → (TJ29 a).2.1 ≠ (TJ29 b).2.1 := by decide +kernel
theorem tyJ29_ok : ∀ k, k < 6 → parseFieldDescriptor (TJ29 k).2.2.1 = some (tyJ29 k) := by decide +kernel
abbrev cJ29_init : ByteArray := prog_59_method_1_code
def yJ29_init : MethodName := ⟨RJ29, "<init>", "(Ljava/lang/Object;Ljava/lang/Object;Ljava/util/TreeMap$Entry;)V"⟩
abbrev cJ29_getValue : ByteArray := prog_59_method_3_code
def yJ29_getValue : MethodName := ⟨RJ29, "getValue", "()Ljava/lang/Object;"⟩
abbrev cJ29_getKey : ByteArray := prog_59_method_2_code
def yJ29_getKey : MethodName := ⟨RJ29, "getKey", "()Ljava/lang/Object;"⟩
theorem q100 : (Jvm.Cond.initialized "java/util/TreeMap$Entry") ∈ lw_all := lw_g (lw_at lw_m1 41 rfl) rfl
theorem q878 : (Jvm.Cond.selects "java/util/TreeMap$Entry" ({ cls := "java/lang/Object", name := "getClass", desc := "()Ljava/lang/Class;" } : Jvm.MethodName) ({ cls := "java/lang/Object", name := "getClass", desc := "()Ljava/lang/Class;" } : Jvm.MethodName)) ∈ lw_all := lw_g (lw_at lw_m4 99 rfl) rfl
theorem q1328 : (Jvm.Cond.instantiable "java/util/TreeMap$Entry" (6 : Nat)) ∈ lw_all := lw_g (lw_at lw_m6 69 rfl) rfl
theorem q1330 : (Jvm.Cond.instanceMethod ({ cls := "java/util/TreeMap$Entry", name := "<init>", desc := "(Ljava/lang/Object;Ljava/lang/Object;Ljava/util/TreeMap$Entry;)V" } : Jvm.MethodName)) ∈ lw_all := lw_g (lw_at lw_m6 71 rfl) rfl
theorem q1331 : (Jvm.Cond.code ({ cls := "java/util/TreeMap$Entry", name := "<init>", desc := "(Ljava/lang/Object;Ljava/lang/Object;Ljava/util/TreeMap$Entry;)V" } : Jvm.MethodName) prog_59_method_1_code (4 : Nat) (Option.none : Option Jvm.ClassFile.FieldType)) ∈ lw_all := lw_g (lw_at lw_m6 72 rfl) rfl
theorem q1332 : (Jvm.Cond.methodLink "java/util/TreeMap$Entry" (3 : Nat) ({ cls := "java/lang/Object", name := "<init>", desc := "()V" } : Jvm.MethodName)) ∈ lw_all := lw_g (lw_at lw_m6 73 rfl) rfl
theorem q1333 : (Jvm.Cond.fieldLink "java/util/TreeMap$Entry" (15 : Nat) "java/util/TreeMap$Entry" "key" "Ljava/lang/Object;") ∈ lw_all := lw_g (lw_at lw_m6 74 rfl) rfl
theorem q1335 : (Jvm.Cond.fieldLink "java/util/TreeMap$Entry" (19 : Nat) "java/util/TreeMap$Entry" "value" "Ljava/lang/Object;") ∈ lw_all := lw_g (lw_at lw_m6 76 rfl) rfl
theorem q1339 : (Jvm.Cond.fieldLink "java/util/TreeMap$Entry" (22 : Nat) "java/util/TreeMap$Entry" "parent" "Ljava/util/TreeMap$Entry;") ∈ lw_all := lw_g (lw_at lw_m6 80 rfl) rfl
theorem q1341 : (Jvm.Cond.fieldLink "java/util/TreeMap$Entry" (9 : Nat) "java/util/TreeMap$Entry" "color" "Z") ∈ lw_all := lw_g (lw_at lw_m6 82 rfl) rfl
theorem q1343 : (Jvm.Cond.lays "java/util/TreeMap$Entry" "java/util/TreeMap$Entry" "key" "Ljava/lang/Object;") ∈ lw_all := lw_g (lw_at lw_m6 84 rfl) rfl
theorem q1344 : (Jvm.Cond.soleField "java/util/TreeMap$Entry" "key") ∈ lw_all := lw_g (lw_at lw_m6 85 rfl) rfl
theorem q1345 : (Jvm.Cond.lays "java/util/TreeMap$Entry" "java/util/TreeMap$Entry" "value" "Ljava/lang/Object;") ∈ lw_all := lw_g (lw_at lw_m6 86 rfl) rfl
theorem q1346 : (Jvm.Cond.soleField "java/util/TreeMap$Entry" "value") ∈ lw_all := lw_g (lw_at lw_m6 87 rfl) rfl
theorem q1347 : (Jvm.Cond.lays "java/util/TreeMap$Entry" "java/util/TreeMap$Entry" "left" "Ljava/util/TreeMap$Entry;") ∈ lw_all := lw_g (lw_at lw_m6 88 rfl) rfl
theorem q1348 : (Jvm.Cond.soleField "java/util/TreeMap$Entry" "left") ∈ lw_all := lw_g (lw_at lw_m6 89 rfl) rfl
theorem q1349 : (Jvm.Cond.lays "java/util/TreeMap$Entry" "java/util/TreeMap$Entry" "right" "Ljava/util/TreeMap$Entry;") ∈ lw_all := lw_g (lw_at lw_m6 90 rfl) rfl
theorem q1350 : (Jvm.Cond.soleField "java/util/TreeMap$Entry" "right") ∈ lw_all := lw_g (lw_at lw_m6 91 rfl) rfl
theorem q1351 : (Jvm.Cond.lays "java/util/TreeMap$Entry" "java/util/TreeMap$Entry" "parent" "Ljava/util/TreeMap$Entry;") ∈ lw_all := lw_g (lw_at lw_m6 92 rfl) rfl
theorem q1352 : (Jvm.Cond.soleField "java/util/TreeMap$Entry" "parent") ∈ lw_all := lw_g (lw_at lw_m6 93 rfl) rfl
theorem q1353 : (Jvm.Cond.lays "java/util/TreeMap$Entry" "java/util/TreeMap$Entry" "color" "Z") ∈ lw_all := lw_g (lw_at lw_m6 94 rfl) rfl
theorem q1354 : (Jvm.Cond.soleField "java/util/TreeMap$Entry" "color") ∈ lw_all := lw_g (lw_at lw_m6 95 rfl) rfl
theorem q1355 : (Jvm.Cond.superclass "java/util/TreeMap$Entry" "java/lang/Object") ∈ lw_all := lw_g (lw_at lw_m6 96 rfl) rfl
theorem q1477 : (Jvm.Cond.castable "java/util/TreeMap$Entry" "java/util/Map$Entry") ∈ lw_tbl := lw_at lw_m6 218 rfl
theorem q1478 : (Jvm.Cond.selects "java/util/TreeMap$Entry" ({ cls := "java/util/Map$Entry", name := "getValue", desc := "()Ljava/lang/Object;" } : Jvm.MethodName) ({ cls := "java/util/TreeMap$Entry", name := "getValue", desc := "()Ljava/lang/Object;" } : Jvm.MethodName)) ∈ lw_all := lw_g (lw_at lw_m6 219 rfl) rfl
theorem q1479 : (Jvm.Cond.unhidden "java/util/TreeMap$Entry" "getValue" "()Ljava/lang/Object;") ∈ lw_tbl := lw_at lw_m6 220 rfl
theorem q1480 : (Jvm.Cond.instanceMethod ({ cls := "java/util/TreeMap$Entry", name := "getValue", desc := "()Ljava/lang/Object;" } : Jvm.MethodName)) ∈ lw_all := lw_g (lw_at lw_m6 221 rfl) rfl
theorem q1481 : (Jvm.Cond.publicMethod ({ cls := "java/util/TreeMap$Entry", name := "getValue", desc := "()Ljava/lang/Object;" } : Jvm.MethodName)) ∈ lw_tbl := lw_at lw_m6 222 rfl
theorem q1482 : (Jvm.Cond.code ({ cls := "java/util/TreeMap$Entry", name := "getValue", desc := "()Ljava/lang/Object;" } : Jvm.MethodName) prog_59_method_3_code (1 : Nat) (Option.some (Jvm.ClassFile.FieldType.object "java/lang/Object"))) ∈ lw_all := lw_g (lw_at lw_m6 223 rfl) rfl
theorem q1682 : (Jvm.Cond.selects "java/util/TreeMap$Entry" ({ cls := "java/util/Map$Entry", name := "getKey", desc := "()Ljava/lang/Object;" } : Jvm.MethodName) ({ cls := "java/util/TreeMap$Entry", name := "getKey", desc := "()Ljava/lang/Object;" } : Jvm.MethodName)) ∈ lw_all := lw_g (lw_at lw_m7 183 rfl) rfl
theorem q1683 : (Jvm.Cond.unhidden "java/util/TreeMap$Entry" "getKey" "()Ljava/lang/Object;") ∈ lw_tbl := lw_at lw_m7 184 rfl
theorem q1684 : (Jvm.Cond.instanceMethod ({ cls := "java/util/TreeMap$Entry", name := "getKey", desc := "()Ljava/lang/Object;" } : Jvm.MethodName)) ∈ lw_all := lw_g (lw_at lw_m7 185 rfl) rfl
theorem q1685 : (Jvm.Cond.publicMethod ({ cls := "java/util/TreeMap$Entry", name := "getKey", desc := "()Ljava/lang/Object;" } : Jvm.MethodName)) ∈ lw_tbl := lw_at lw_m7 186 rfl
theorem q1686 : (Jvm.Cond.code ({ cls := "java/util/TreeMap$Entry", name := "getKey", desc := "()Ljava/lang/Object;" } : Jvm.MethodName) prog_59_method_2_code (1 : Nat) (Option.some (Jvm.ClassFile.FieldType.object "java/lang/Object"))) ∈ lw_all := lw_g (lw_at lw_m7 187 rfl) rfl
theorem q2301 : (Jvm.Cond.castable "java/util/TreeMap$Entry" "java/lang/Object") ∈ lw_tbl := lw_at lw_m10 82 rfl
theorem in_J29 : ∀ w ∈ wsJ290, w ∈ lw_all := lw_in wsJ290 [1343, 1345, 1347, 1349, 1351, 1353] (by decide +kernel) (by decide +kernel)
/-! java/util/AbstractSet -/
def RJ30 : String := "java/util/AbstractSet"
abbrev cJ30_init : ByteArray := prog_40_method_1_code
def yJ30_init : MethodName := ⟨RJ30, "<init>", "()V"⟩
theorem q101 : (Jvm.Cond.initialized "java/util/AbstractSet") ∈ lw_all := lw_g (lw_at lw_m1 42 rfl) rfl
theorem q1429 : (Jvm.Cond.instanceMethod ({ cls := "java/util/AbstractSet", name := "<init>", desc := "()V" } : Jvm.MethodName)) ∈ lw_all := lw_g (lw_at lw_m6 170 rfl) rfl
theorem q1430 : (Jvm.Cond.code ({ cls := "java/util/AbstractSet", name := "<init>", desc := "()V" } : Jvm.MethodName) prog_40_method_1_code (1 : Nat) (Option.none : Option Jvm.ClassFile.FieldType)) ∈ lw_all := lw_g (lw_at lw_m6 171 rfl) rfl
theorem q1431 : (Jvm.Cond.methodLink "java/util/AbstractSet" (1 : Nat) ({ cls := "java/util/AbstractCollection", name := "<init>", desc := "()V" } : Jvm.MethodName)) ∈ lw_all := lw_g (lw_at lw_m6 172 rfl) rfl
/-! java/util/TreeMap$EntrySet -/
def RJ31 : String := "java/util/TreeMap$EntrySet"
def TJ31 : u_T := fun k => match k with
  | _ => ("java/util/TreeMap$EntrySet", "this$0", "Ljava/util/TreeMap;", true)
def tyJ31 : Nat → FieldType := fun k => match k with
  | _ => .object "java/util/TreeMap"
abbrev wsJ310 : List Cond := u_ws RJ31 TJ31 1
theorem nmJ31 : ∀ a, a < 1 → ∀ b, b < 1 → a ≠ b → (TJ31 a).2.1 ≠ (TJ31 b).2.1 := by decide +kernel
theorem tyJ31_ok : ∀ k, k < 1 → parseFieldDescriptor (TJ31 k).2.2.1 = some (tyJ31 k) := by decide +kernel
abbrev cJ31_init : ByteArray := prog_61_method_1_code
def yJ31_init : MethodName := ⟨RJ31, "<init>", "(Ljava/util/TreeMap;)V"⟩
abbrev cJ31_iterator : ByteArray := prog_61_method_2_code
def yJ31_iterator : MethodName := ⟨RJ31, "iterator", "()Ljava/util/Iterator;"⟩
abbrev cJ31_size : ByteArray := prog_61_method_5_code
def yJ31_size : MethodName := ⟨RJ31, "size", "()I"⟩
theorem q102 : (Jvm.Cond.initialized "java/util/TreeMap$EntrySet") ∈ lw_all := lw_g (lw_at lw_m1 43 rfl) rfl
theorem q880 : (Jvm.Cond.selects "java/util/TreeMap$EntrySet" ({ cls := "java/lang/Object", name := "getClass", desc := "()Ljava/lang/Class;" } : Jvm.MethodName) ({ cls := "java/lang/Object", name := "getClass", desc := "()Ljava/lang/Class;" } : Jvm.MethodName)) ∈ lw_all := lw_g (lw_at lw_m4 101 rfl) rfl
theorem q1424 : (Jvm.Cond.instantiable "java/util/TreeMap$EntrySet" (1 : Nat)) ∈ lw_all := lw_g (lw_at lw_m6 165 rfl) rfl
theorem q1426 : (Jvm.Cond.instanceMethod ({ cls := "java/util/TreeMap$EntrySet", name := "<init>", desc := "(Ljava/util/TreeMap;)V" } : Jvm.MethodName)) ∈ lw_all := lw_g (lw_at lw_m6 167 rfl) rfl
theorem q1427 : (Jvm.Cond.code ({ cls := "java/util/TreeMap$EntrySet", name := "<init>", desc := "(Ljava/util/TreeMap;)V" } : Jvm.MethodName) prog_61_method_1_code (2 : Nat) (Option.none : Option Jvm.ClassFile.FieldType)) ∈ lw_all := lw_g (lw_at lw_m6 168 rfl) rfl
theorem q1428 : (Jvm.Cond.methodLink "java/util/TreeMap$EntrySet" (7 : Nat) ({ cls := "java/util/AbstractSet", name := "<init>", desc := "()V" } : Jvm.MethodName)) ∈ lw_all := lw_g (lw_at lw_m6 169 rfl) rfl
theorem q1432 : (Jvm.Cond.fieldLink "java/util/TreeMap$EntrySet" (1 : Nat) "java/util/TreeMap$EntrySet" "this$0" "Ljava/util/TreeMap;") ∈ lw_all := lw_g (lw_at lw_m6 173 rfl) rfl
theorem q1433 : (Jvm.Cond.laysFinal "java/util/TreeMap$EntrySet" "java/util/TreeMap$EntrySet" "this$0" "Ljava/util/TreeMap;") ∈ lw_all := lw_g (lw_at lw_m6 174 rfl) rfl
theorem q1434 : (Jvm.Cond.soleField "java/util/TreeMap$EntrySet" "this$0") ∈ lw_all := lw_g (lw_at lw_m6 175 rfl) rfl
theorem q1435 : (Jvm.Cond.superclass "java/util/TreeMap$EntrySet" "java/util/AbstractSet") ∈ lw_all := lw_g (lw_at lw_m6 176 rfl) rfl
theorem q1440 : (Jvm.Cond.castable "java/util/TreeMap$EntrySet" "java/util/Set") ∈ lw_tbl := lw_at lw_m6 181 rfl
theorem q1441 : (Jvm.Cond.selects "java/util/TreeMap$EntrySet" ({ cls := "java/util/Set", name := "iterator", desc := "()Ljava/util/Iterator;" } : Jvm.MethodName) ({ cls := "java/util/TreeMap$EntrySet", name := "iterator", desc := "()Ljava/util/Iterator;" } : Jvm.MethodName)) ∈ lw_all := lw_g (lw_at lw_m6 182 rfl) rfl
theorem q1442 : (Jvm.Cond.unhidden "java/util/TreeMap$EntrySet" "iterator" "()Ljava/util/Iterator;") ∈ lw_tbl := lw_at lw_m6 183 rfl
theorem q1443 : (Jvm.Cond.instanceMethod ({ cls := "java/util/TreeMap$EntrySet", name := "iterator", desc := "()Ljava/util/Iterator;" } : Jvm.MethodName)) ∈ lw_all := lw_g (lw_at lw_m6 184 rfl) rfl
theorem q1444 : (Jvm.Cond.publicMethod ({ cls := "java/util/TreeMap$EntrySet", name := "iterator", desc := "()Ljava/util/Iterator;" } : Jvm.MethodName)) ∈ lw_tbl := lw_at lw_m6 185 rfl
theorem q1445 : (Jvm.Cond.code ({ cls := "java/util/TreeMap$EntrySet", name := "iterator", desc := "()Ljava/util/Iterator;" } : Jvm.MethodName) prog_61_method_2_code (1 : Nat) (Option.some (Jvm.ClassFile.FieldType.object "java/util/Iterator"))) ∈ lw_all := lw_g (lw_at lw_m6 186 rfl) rfl
theorem q1446 : (Jvm.Cond.classLink "java/util/TreeMap$EntrySet" (13 : Nat) "java/util/TreeMap$EntryIterator") ∈ lw_all := lw_g (lw_at lw_m6 187 rfl) rfl
theorem q1448 : (Jvm.Cond.methodLink "java/util/TreeMap$EntrySet" (15 : Nat) ({ cls := "java/util/TreeMap", name := "getFirstEntry", desc := "()Ljava/util/TreeMap$Entry;" } : Jvm.MethodName)) ∈ lw_all := lw_g (lw_at lw_m6 189 rfl) rfl
theorem q1452 : (Jvm.Cond.methodLink "java/util/TreeMap$EntrySet" (21 : Nat) ({ cls := "java/util/TreeMap$EntryIterator", name := "<init>", desc := "(Ljava/util/TreeMap;Ljava/util/TreeMap$Entry;)V" } : Jvm.MethodName)) ∈ lw_all := lw_g (lw_at lw_m6 193 rfl) rfl
theorem q1636 : (Jvm.Cond.castable "java/util/TreeMap$EntrySet" "java/util/Collection") ∈ lw_tbl := lw_at lw_m7 137 rfl
theorem q1637 : (Jvm.Cond.selects "java/util/TreeMap$EntrySet" ({ cls := "java/util/Collection", name := "toArray", desc := "()[Ljava/lang/Object;" } : Jvm.MethodName) ({ cls := "java/util/AbstractCollection", name := "toArray", desc := "()[Ljava/lang/Object;" } : Jvm.MethodName)) ∈ lw_all := lw_g (lw_at lw_m7 138 rfl) rfl
theorem q1638 : (Jvm.Cond.unhidden "java/util/TreeMap$EntrySet" "toArray" "()[Ljava/lang/Object;") ∈ lw_tbl := lw_at lw_m7 139 rfl
theorem q1646 : (Jvm.Cond.selects "java/util/TreeMap$EntrySet" ({ cls := "java/util/AbstractCollection", name := "size", desc := "()I" } : Jvm.MethodName) ({ cls := "java/util/TreeMap$EntrySet", name := "size", desc := "()I" } : Jvm.MethodName)) ∈ lw_all := lw_g (lw_at lw_m7 147 rfl) rfl
theorem q1647 : (Jvm.Cond.instanceMethod ({ cls := "java/util/TreeMap$EntrySet", name := "size", desc := "()I" } : Jvm.MethodName)) ∈ lw_all := lw_g (lw_at lw_m7 148 rfl) rfl
theorem q1648 : (Jvm.Cond.code ({ cls := "java/util/TreeMap$EntrySet", name := "size", desc := "()I" } : Jvm.MethodName) prog_61_method_5_code (1 : Nat) (Option.some Jvm.ClassFile.FieldType.int)) ∈ lw_all := lw_g (lw_at lw_m7 149 rfl) rfl
theorem q1649 : (Jvm.Cond.methodLink "java/util/TreeMap$EntrySet" (48 : Nat) ({ cls := "java/util/TreeMap", name := "size", desc := "()I" } : Jvm.MethodName)) ∈ lw_all := lw_g (lw_at lw_m7 150 rfl) rfl
theorem q1655 : (Jvm.Cond.selects "java/util/TreeMap$EntrySet" ({ cls := "java/util/AbstractCollection", name := "iterator", desc := "()Ljava/util/Iterator;" } : Jvm.MethodName) ({ cls := "java/util/TreeMap$EntrySet", name := "iterator", desc := "()Ljava/util/Iterator;" } : Jvm.MethodName)) ∈ lw_all := lw_g (lw_at lw_m7 156 rfl) rfl
theorem q2302 : (Jvm.Cond.castable "java/util/TreeMap$EntrySet" "java/lang/Object") ∈ lw_tbl := lw_at lw_m10 83 rfl
theorem in_J31 : ∀ w ∈ wsJ310, w ∈ lw_all := lw_in wsJ310 [1433] (by decide +kernel) (by decide +kernel)
/-! java/util/TreeMap$PrivateEntryIterator -/
def RJ32 : String := "java/util/TreeMap$PrivateEntryIterator"
abbrev cJ32_hasNext : ByteArray := prog_62_method_2_code
def yJ32_hasNext : MethodName := ⟨RJ32, "hasNext", "()Z"⟩
abbrev cJ32_nextEntry : ByteArray := prog_62_method_3_code
def yJ32_nextEntry : MethodName := ⟨RJ32, "nextEntry", "()Ljava/util/TreeMap$Entry;"⟩
abbrev cJ32_init : ByteArray := prog_62_method_1_code
def yJ32_init : MethodName := ⟨RJ32, "<init>", "(Ljava/util/TreeMap;Ljava/util/TreeMap$Entry;)V"⟩
theorem q103 : (Jvm.Cond.initialized "java/util/TreeMap$PrivateEntryIterator") ∈ lw_all := lw_g (lw_at lw_m1 44 rfl) rfl
theorem q188 : (Jvm.Cond.fieldLinkNest "java/util/TreeMap$PrivateEntryIterator" (13 : Nat) "java/util/TreeMap" "modCount" "I" "java/util/TreeMap") ∈ lw_tbl := lw_at lw_m1 129 rfl
theorem q693 : (Jvm.Cond.instanceMethod ({ cls := "java/util/TreeMap$PrivateEntryIterator", name := "hasNext", desc := "()Z" } : Jvm.MethodName)) ∈ lw_all := lw_g (lw_at lw_m3 154 rfl) rfl
theorem q694 : (Jvm.Cond.publicMethod ({ cls := "java/util/TreeMap$PrivateEntryIterator", name := "hasNext", desc := "()Z" } : Jvm.MethodName)) ∈ lw_tbl := lw_at lw_m3 155 rfl
theorem q695 : (Jvm.Cond.code ({ cls := "java/util/TreeMap$PrivateEntryIterator", name := "hasNext", desc := "()Z" } : Jvm.MethodName) prog_62_method_2_code (1 : Nat) (Option.some Jvm.ClassFile.FieldType.boolean)) ∈ lw_all := lw_g (lw_at lw_m3 156 rfl) rfl
theorem q720 : (Jvm.Cond.declares ({ cls := "java/util/TreeMap$PrivateEntryIterator", name := "nextEntry", desc := "()Ljava/util/TreeMap$Entry;" } : Jvm.MethodName)) ∈ lw_tbl := lw_at lw_m3 181 rfl
theorem q722 : (Jvm.Cond.instanceMethod ({ cls := "java/util/TreeMap$PrivateEntryIterator", name := "nextEntry", desc := "()Ljava/util/TreeMap$Entry;" } : Jvm.MethodName)) ∈ lw_all := lw_g (lw_at lw_m3 183 rfl) rfl
theorem q723 : (Jvm.Cond.code ({ cls := "java/util/TreeMap$PrivateEntryIterator", name := "nextEntry", desc := "()Ljava/util/TreeMap$Entry;" } : Jvm.MethodName) prog_62_method_3_code (2 : Nat) (Option.some (Jvm.ClassFile.FieldType.object "java/util/TreeMap$Entry"))) ∈ lw_all := lw_g (lw_at lw_m3 184 rfl) rfl
theorem q724 : (Jvm.Cond.methodLink "java/util/TreeMap$PrivateEntryIterator" (35 : Nat) ({ cls := "java/util/TreeMap", name := "successor", desc := "(Ljava/util/TreeMap$Entry;)Ljava/util/TreeMap$Entry;" } : Jvm.MethodName)) ∈ lw_all := lw_g (lw_at lw_m3 185 rfl) rfl
theorem q1456 : (Jvm.Cond.instanceMethod ({ cls := "java/util/TreeMap$PrivateEntryIterator", name := "<init>", desc := "(Ljava/util/TreeMap;Ljava/util/TreeMap$Entry;)V" } : Jvm.MethodName)) ∈ lw_all := lw_g (lw_at lw_m6 197 rfl) rfl
theorem q1457 : (Jvm.Cond.code ({ cls := "java/util/TreeMap$PrivateEntryIterator", name := "<init>", desc := "(Ljava/util/TreeMap;Ljava/util/TreeMap$Entry;)V" } : Jvm.MethodName) prog_62_method_1_code (3 : Nat) (Option.none : Option Jvm.ClassFile.FieldType)) ∈ lw_all := lw_g (lw_at lw_m6 198 rfl) rfl
theorem q1458 : (Jvm.Cond.methodLink "java/util/TreeMap$PrivateEntryIterator" (7 : Nat) ({ cls := "java/lang/Object", name := "<init>", desc := "()V" } : Jvm.MethodName)) ∈ lw_all := lw_g (lw_at lw_m6 199 rfl) rfl
theorem q1459 : (Jvm.Cond.fieldLink "java/util/TreeMap$PrivateEntryIterator" (26 : Nat) "java/util/TreeMap$PrivateEntryIterator" "next" "Ljava/util/TreeMap$Entry;") ∈ lw_all := lw_g (lw_at lw_m6 200 rfl) rfl
theorem q1460 : (Jvm.Cond.fieldLink "java/util/TreeMap$PrivateEntryIterator" (22 : Nat) "java/util/TreeMap$PrivateEntryIterator" "lastReturned" "Ljava/util/TreeMap$Entry;") ∈ lw_all := lw_g (lw_at lw_m6 201 rfl) rfl
theorem q1461 : (Jvm.Cond.fieldLink "java/util/TreeMap$PrivateEntryIterator" (19 : Nat) "java/util/TreeMap$PrivateEntryIterator" "expectedModCount" "I") ∈ lw_all := lw_g (lw_at lw_m6 202 rfl) rfl
theorem q1462 : (Jvm.Cond.fieldLink "java/util/TreeMap$PrivateEntryIterator" (1 : Nat) "java/util/TreeMap$PrivateEntryIterator" "this$0" "Ljava/util/TreeMap;") ∈ lw_all := lw_g (lw_at lw_m6 203 rfl) rfl
theorem q1464 : (Jvm.Cond.soleField "java/util/TreeMap$PrivateEntryIterator" "next") ∈ lw_all := lw_g (lw_at lw_m6 205 rfl) rfl
theorem q1466 : (Jvm.Cond.soleField "java/util/TreeMap$PrivateEntryIterator" "lastReturned") ∈ lw_all := lw_g (lw_at lw_m6 207 rfl) rfl
theorem q1468 : (Jvm.Cond.soleField "java/util/TreeMap$PrivateEntryIterator" "expectedModCount") ∈ lw_all := lw_g (lw_at lw_m6 209 rfl) rfl
theorem q1470 : (Jvm.Cond.soleField "java/util/TreeMap$PrivateEntryIterator" "this$0") ∈ lw_all := lw_g (lw_at lw_m6 211 rfl) rfl
/-! java/util/TreeMap$EntryIterator -/
def RJ33 : String := "java/util/TreeMap$EntryIterator"
def TJ33 : u_T := fun k => match k with
  | 0 => ("java/util/TreeMap$PrivateEntryIterator", "next", "Ljava/util/TreeMap$Entry;", false)
  | 1 => ("java/util/TreeMap$PrivateEntryIterator", "lastReturned", "Ljava/util/TreeMap$Entry;", false)
  | 2 => ("java/util/TreeMap$PrivateEntryIterator", "expectedModCount", "I", false)
  | _ => ("java/util/TreeMap$PrivateEntryIterator", "this$0", "Ljava/util/TreeMap;", true)
def tyJ33 : Nat → FieldType := fun k => match k with
  | 0 => .object "java/util/TreeMap$Entry"
  | 1 => .object "java/util/TreeMap$Entry"
  | 2 => .int
  | _ => .object "java/util/TreeMap"
abbrev wsJ330 : List Cond := u_ws RJ33 TJ33 4
theorem nmJ33 : ∀ a, a < 4 → ∀ b, b < 4 → a ≠ b → (TJ33 a).2.1 ≠ (TJ33 b).2.1 := by decide +kernel
theorem tyJ33_ok : ∀ k, k < 4 → parseFieldDescriptor (TJ33 k).2.2.1 = some (tyJ33 k) := by decide +kernel
abbrev cJ33_next : ByteArray := prog_60_method_3_code
def yJ33_next : MethodName := ⟨RJ33, "next", "()Ljava/lang/Object;"⟩
abbrev cJ33_next_2 : ByteArray := prog_60_method_2_code
def yJ33_next_2 : MethodName := ⟨RJ33, "next", "()Ljava/util/Map$Entry;"⟩
abbrev cJ33_init : ByteArray := prog_60_method_1_code
def yJ33_init : MethodName := ⟨RJ33, "<init>", "(Ljava/util/TreeMap;Ljava/util/TreeMap$Entry;)V"⟩
theorem q104 : (Jvm.Cond.initialized "java/util/TreeMap$EntryIterator") ∈ lw_all := lw_g (lw_at lw_m1 45 rfl) rfl
theorem q690 : (Jvm.Cond.castable "java/util/TreeMap$EntryIterator" "java/util/Iterator") ∈ lw_tbl := lw_at lw_m3 151 rfl
theorem q691 : (Jvm.Cond.selects "java/util/TreeMap$EntryIterator" ({ cls := "java/util/Iterator", name := "hasNext", desc := "()Z" } : Jvm.MethodName) ({ cls := "java/util/TreeMap$PrivateEntryIterator", name := "hasNext", desc := "()Z" } : Jvm.MethodName)) ∈ lw_all := lw_g (lw_at lw_m3 152 rfl) rfl
theorem q692 : (Jvm.Cond.unhidden "java/util/TreeMap$EntryIterator" "hasNext" "()Z") ∈ lw_tbl := lw_at lw_m3 153 rfl
theorem q709 : (Jvm.Cond.selects "java/util/TreeMap$EntryIterator" ({ cls := "java/util/Iterator", name := "next", desc := "()Ljava/lang/Object;" } : Jvm.MethodName) ({ cls := "java/util/TreeMap$EntryIterator", name := "next", desc := "()Ljava/lang/Object;" } : Jvm.MethodName)) ∈ lw_all := lw_g (lw_at lw_m3 170 rfl) rfl
theorem q710 : (Jvm.Cond.unhidden "java/util/TreeMap$EntryIterator" "next" "()Ljava/lang/Object;") ∈ lw_tbl := lw_at lw_m3 171 rfl
theorem q711 : (Jvm.Cond.instanceMethod ({ cls := "java/util/TreeMap$EntryIterator", name := "next", desc := "()Ljava/lang/Object;" } : Jvm.MethodName)) ∈ lw_all := lw_g (lw_at lw_m3 172 rfl) rfl
theorem q712 : (Jvm.Cond.publicMethod ({ cls := "java/util/TreeMap$EntryIterator", name := "next", desc := "()Ljava/lang/Object;" } : Jvm.MethodName)) ∈ lw_tbl := lw_at lw_m3 173 rfl
theorem q713 : (Jvm.Cond.code ({ cls := "java/util/TreeMap$EntryIterator", name := "next", desc := "()Ljava/lang/Object;" } : Jvm.MethodName) prog_60_method_3_code (1 : Nat) (Option.some (Jvm.ClassFile.FieldType.object "java/lang/Object"))) ∈ lw_all := lw_g (lw_at lw_m3 174 rfl) rfl
theorem q714 : (Jvm.Cond.methodLink "java/util/TreeMap$EntryIterator" (13 : Nat) ({ cls := "java/util/TreeMap$EntryIterator", name := "next", desc := "()Ljava/util/Map$Entry;" } : Jvm.MethodName)) ∈ lw_all := lw_g (lw_at lw_m3 175 rfl) rfl
theorem q715 : (Jvm.Cond.instanceMethod ({ cls := "java/util/TreeMap$EntryIterator", name := "next", desc := "()Ljava/util/Map$Entry;" } : Jvm.MethodName)) ∈ lw_all := lw_g (lw_at lw_m3 176 rfl) rfl
theorem q716 : (Jvm.Cond.selects "java/util/TreeMap$EntryIterator" ({ cls := "java/util/TreeMap$EntryIterator", name := "next", desc := "()Ljava/util/Map$Entry;" } : Jvm.MethodName) ({ cls := "java/util/TreeMap$EntryIterator", name := "next", desc := "()Ljava/util/Map$Entry;" } : Jvm.MethodName)) ∈ lw_all := lw_g (lw_at lw_m3 177 rfl) rfl
theorem q717 : (Jvm.Cond.code ({ cls := "java/util/TreeMap$EntryIterator", name := "next", desc := "()Ljava/util/Map$Entry;" } : Jvm.MethodName) prog_60_method_2_code (1 : Nat) (Option.some (Jvm.ClassFile.FieldType.object "java/util/Map$Entry"))) ∈ lw_all := lw_g (lw_at lw_m3 178 rfl) rfl
theorem q718 : (Jvm.Cond.methodLink "java/util/TreeMap$EntryIterator" (7 : Nat) ({ cls := "java/util/TreeMap$EntryIterator", name := "nextEntry", desc := "()Ljava/util/TreeMap$Entry;" } : Jvm.MethodName)) ∈ lw_all := lw_g (lw_at lw_m3 179 rfl) rfl
theorem q719 : (Jvm.Cond.sameMethod "java/util/TreeMap$EntryIterator" "java/util/TreeMap$PrivateEntryIterator" "nextEntry" "()Ljava/util/TreeMap$Entry;") ∈ lw_all := lw_g (lw_at lw_m3 180 rfl) rfl
theorem q721 : (Jvm.Cond.selects "java/util/TreeMap$EntryIterator" ({ cls := "java/util/TreeMap$EntryIterator", name := "nextEntry", desc := "()Ljava/util/TreeMap$Entry;" } : Jvm.MethodName) ({ cls := "java/util/TreeMap$PrivateEntryIterator", name := "nextEntry", desc := "()Ljava/util/TreeMap$Entry;" } : Jvm.MethodName)) ∈ lw_all := lw_g (lw_at lw_m3 182 rfl) rfl
theorem q879 : (Jvm.Cond.selects "java/util/TreeMap$EntryIterator" ({ cls := "java/lang/Object", name := "getClass", desc := "()Ljava/lang/Class;" } : Jvm.MethodName) ({ cls := "java/lang/Object", name := "getClass", desc := "()Ljava/lang/Class;" } : Jvm.MethodName)) ∈ lw_all := lw_g (lw_at lw_m4 100 rfl) rfl
theorem q1447 : (Jvm.Cond.instantiable "java/util/TreeMap$EntryIterator" (4 : Nat)) ∈ lw_all := lw_g (lw_at lw_m6 188 rfl) rfl
theorem q1453 : (Jvm.Cond.instanceMethod ({ cls := "java/util/TreeMap$EntryIterator", name := "<init>", desc := "(Ljava/util/TreeMap;Ljava/util/TreeMap$Entry;)V" } : Jvm.MethodName)) ∈ lw_all := lw_g (lw_at lw_m6 194 rfl) rfl
theorem q1454 : (Jvm.Cond.code ({ cls := "java/util/TreeMap$EntryIterator", name := "<init>", desc := "(Ljava/util/TreeMap;Ljava/util/TreeMap$Entry;)V" } : Jvm.MethodName) prog_60_method_1_code (3 : Nat) (Option.none : Option Jvm.ClassFile.FieldType)) ∈ lw_all := lw_g (lw_at lw_m6 195 rfl) rfl
theorem q1455 : (Jvm.Cond.methodLink "java/util/TreeMap$EntryIterator" (1 : Nat) ({ cls := "java/util/TreeMap$PrivateEntryIterator", name := "<init>", desc := "(Ljava/util/TreeMap;Ljava/util/TreeMap$Entry;)V" } : Jvm.MethodName)) ∈ lw_all := lw_g (lw_at lw_m6 196 rfl) rfl
theorem q1463 : (Jvm.Cond.lays "java/util/TreeMap$EntryIterator" "java/util/TreeMap$PrivateEntryIterator" "next" "Ljava/util/TreeMap$Entry;") ∈ lw_all := lw_g (lw_at lw_m6 204 rfl) rfl
theorem q1465 : (Jvm.Cond.lays "java/util/TreeMap$EntryIterator" "java/util/TreeMap$PrivateEntryIterator" "lastReturned" "Ljava/util/TreeMap$Entry;") ∈ lw_all := lw_g (lw_at lw_m6 206 rfl) rfl
theorem q1467 : (Jvm.Cond.lays "java/util/TreeMap$EntryIterator" "java/util/TreeMap$PrivateEntryIterator" "expectedModCount" "I") ∈ lw_all := lw_g (lw_at lw_m6 208 rfl) rfl
theorem q1469 : (Jvm.Cond.laysFinal "java/util/TreeMap$EntryIterator" "java/util/TreeMap$PrivateEntryIterator" "this$0" "Ljava/util/TreeMap;") ∈ lw_all := lw_g (lw_at lw_m6 210 rfl) rfl
theorem q1471 : (Jvm.Cond.superclass "java/util/TreeMap$EntryIterator" "java/util/TreeMap$PrivateEntryIterator") ∈ lw_all := lw_g (lw_at lw_m6 212 rfl) rfl
theorem q2303 : (Jvm.Cond.castable "java/util/TreeMap$EntryIterator" "java/lang/Object") ∈ lw_tbl := lw_at lw_m10 84 rfl
theorem in_J33 : ∀ w ∈ wsJ330, w ∈ lw_all := lw_in wsJ330 [1463, 1465, 1467, 1469] (by decide +kernel) (by decide +kernel)
/-! java/lang/Object -/
def RJ34 : String := "java/lang/Object"
abbrev cJ34_init : ByteArray := object_method_1_code
def yJ34_init : MethodName := ⟨RJ34, "<init>", "()V"⟩
theorem q111 : (Jvm.Cond.instanceMethod ({ cls := "java/lang/Object", name := "<init>", desc := "()V" } : Jvm.MethodName)) ∈ lw_all := lw_g (lw_at lw_m1 52 rfl) rfl
theorem q112 : (Jvm.Cond.code ({ cls := "java/lang/Object", name := "<init>", desc := "()V" } : Jvm.MethodName) object_method_1_code (1 : Nat) (Option.none : Option Jvm.ClassFile.FieldType)) ∈ lw_all := lw_g (lw_at lw_m1 53 rfl) rfl
theorem q454 : (Jvm.Cond.native ({ cls := "java/lang/Object", name := "clone", desc := "()Ljava/lang/Object;" } : Jvm.MethodName)) ∈ lw_all := lw_g (lw_at lw_m2 155 rfl) rfl
theorem q455 : (Jvm.Cond.instanceMethod ({ cls := "java/lang/Object", name := "clone", desc := "()Ljava/lang/Object;" } : Jvm.MethodName)) ∈ lw_all := lw_g (lw_at lw_m2 156 rfl) rfl
theorem q859 : (Jvm.Cond.instanceMethod ({ cls := "java/lang/Object", name := "getClass", desc := "()Ljava/lang/Class;" } : Jvm.MethodName)) ∈ lw_all := lw_g (lw_at lw_m4 80 rfl) rfl
theorem q860 : (Jvm.Cond.sameMethod "java/lang/Object" "java/lang/Object" "getClass" "()Ljava/lang/Class;") ∈ lw_all := lw_g (lw_at lw_m4 81 rfl) rfl
theorem q882 : (Jvm.Cond.native ({ cls := "java/lang/Object", name := "getClass", desc := "()Ljava/lang/Class;" } : Jvm.MethodName)) ∈ lw_all := lw_g (lw_at lw_m4 103 rfl) rfl
theorem q2285 : (Jvm.Cond.declares ({ cls := "java/lang/Object", name := "getClass", desc := "()Ljava/lang/Class;" } : Jvm.MethodName)) ∈ lw_tbl := lw_at lw_m10 66 rfl
theorem q145 : (Jvm.Cond.arrayClass Jvm.ClassFile.FieldType.byte) ∈ lw_all := lw_g (lw_at lw_m1 86 rfl) rfl
theorem q638 : (Jvm.Cond.arrayClass Jvm.ClassFile.FieldType.long) ∈ lw_all := lw_g (lw_at lw_m3 99 rfl) rfl
theorem q836 : (Jvm.Cond.arrayOver (Jvm.ClassFile.FieldType.object "ExchangeText$Sort")) ∈ lw_tbl := lw_at lw_m4 57 rfl
theorem q887 : (Jvm.Cond.arrayOver (Jvm.ClassFile.FieldType.object "java/lang/Object")) ∈ lw_tbl := lw_at lw_m4 108 rfl
theorem q1263 : (Jvm.Cond.arrayClass Jvm.ClassFile.FieldType.int) ∈ lw_all := lw_g (lw_at lw_m6 4 rfl) rfl
theorem q1880 : (Jvm.Cond.arrayOver (Jvm.ClassFile.FieldType.object "ExchangeText$Line")) ∈ lw_tbl := lw_at lw_m8 141 rfl
theorem q2021 : (Jvm.Cond.arrayClass Jvm.ClassFile.FieldType.boolean) ∈ lw_all := lw_g (lw_at lw_m9 42 rfl) rfl
theorem q79 : (Jvm.Cond.initialized "java/lang/System") ∈ lw_all := lw_g (lw_at lw_m1 20 rfl) rfl
theorem q461 : (Jvm.Cond.static ({ cls := "java/lang/System", name := "arraycopy", desc := "(Ljava/lang/Object;ILjava/lang/Object;II)V" } : Jvm.MethodName)) ∈ lw_all := lw_g (lw_at lw_m2 162 rfl) rfl
theorem q462 : (Jvm.Cond.native ({ cls := "java/lang/System", name := "arraycopy", desc := "(Ljava/lang/Object;ILjava/lang/Object;II)V" } : Jvm.MethodName)) ∈ lw_all := lw_g (lw_at lw_m2 163 rfl) rfl
theorem q92 : (Jvm.Cond.initialized "java/lang/Integer$IntegerCache") ∈ lw_all := lw_g (lw_at lw_m1 33 rfl) rfl
theorem q939 : (Jvm.Cond.laysStatic "java/lang/Integer$IntegerCache" "high" "I") ∈ lw_tbl := lw_at lw_m4 160 rfl
theorem q941 : (Jvm.Cond.laysStatic "java/lang/Integer$IntegerCache" "cache" "[Ljava/lang/Integer;") ∈ lw_tbl := lw_at lw_m4 162 rfl
theorem q95 : (Jvm.Cond.initialized "jdk/internal/misc/UnsafeConstants") ∈ lw_all := lw_g (lw_at lw_m1 36 rfl) rfl
theorem q1066 : (Jvm.Cond.laysStatic "jdk/internal/misc/UnsafeConstants" "BIG_ENDIAN" "Z") ∈ lw_tbl := lw_at lw_m5 47 rfl
theorem q453 : (Jvm.Cond.sameMethod "[B" "java/lang/Object" "clone" "()Ljava/lang/Object;") ∈ lw_all := lw_g (lw_at lw_m2 154 rfl) rfl
theorem q456 : (Jvm.Cond.selects "[B" ({ cls := "[B", name := "clone", desc := "()Ljava/lang/Object;" } : Jvm.MethodName) ({ cls := "java/lang/Object", name := "clone", desc := "()Ljava/lang/Object;" } : Jvm.MethodName)) ∈ lw_all := lw_g (lw_at lw_m2 157 rfl) rfl
theorem q457 : (Jvm.Cond.castable "[B" "java/lang/Cloneable") ∈ lw_tbl := lw_at lw_m2 158 rfl
theorem q2305 : (Jvm.Cond.castable "[B" "java/lang/Object") ∈ lw_tbl := lw_at lw_m10 86 rfl
theorem q682 : (Jvm.Cond.interfaceMethod "java/util/Iterator" "java/util/Iterator" "hasNext" "()Z") ∈ lw_tbl := lw_at lw_m3 143 rfl
theorem q683 : (Jvm.Cond.declares ({ cls := "java/util/Iterator", name := "hasNext", desc := "()Z" } : Jvm.MethodName)) ∈ lw_tbl := lw_at lw_m3 144 rfl
theorem q698 : (Jvm.Cond.interfaceMethod "java/util/Iterator" "java/util/Iterator" "next" "()Ljava/lang/Object;") ∈ lw_tbl := lw_at lw_m3 159 rfl
theorem q699 : (Jvm.Cond.declares ({ cls := "java/util/Iterator", name := "next", desc := "()Ljava/lang/Object;" } : Jvm.MethodName)) ∈ lw_tbl := lw_at lw_m3 160 rfl
theorem q817 : (Jvm.Cond.sameMethod "[J" "java/lang/Object" "clone" "()Ljava/lang/Object;") ∈ lw_all := lw_g (lw_at lw_m4 38 rfl) rfl
theorem q818 : (Jvm.Cond.selects "[J" ({ cls := "[J", name := "clone", desc := "()Ljava/lang/Object;" } : Jvm.MethodName) ({ cls := "java/lang/Object", name := "clone", desc := "()Ljava/lang/Object;" } : Jvm.MethodName)) ∈ lw_all := lw_g (lw_at lw_m4 39 rfl) rfl
theorem q819 : (Jvm.Cond.castable "[J" "java/lang/Cloneable") ∈ lw_tbl := lw_at lw_m4 40 rfl
theorem q2306 : (Jvm.Cond.castable "[J" "java/lang/Object") ∈ lw_tbl := lw_at lw_m10 87 rfl
theorem q833 : (Jvm.Cond.sameMethod "[LExchangeText$Sort;" "java/lang/Object" "clone" "()Ljava/lang/Object;") ∈ lw_all := lw_g (lw_at lw_m4 54 rfl) rfl
theorem q834 : (Jvm.Cond.selects "[LExchangeText$Sort;" ({ cls := "[LExchangeText$Sort;", name := "clone", desc := "()Ljava/lang/Object;" } : Jvm.MethodName) ({ cls := "java/lang/Object", name := "clone", desc := "()Ljava/lang/Object;" } : Jvm.MethodName)) ∈ lw_all := lw_g (lw_at lw_m4 55 rfl) rfl
theorem q835 : (Jvm.Cond.castable "[LExchangeText$Sort;" "java/lang/Cloneable") ∈ lw_tbl := lw_at lw_m4 56 rfl
theorem q2307 : (Jvm.Cond.castable "[LExchangeText$Sort;" "java/lang/Object") ∈ lw_tbl := lw_at lw_m10 88 rfl
theorem q969 : (Jvm.Cond.interfaceMethod "java/util/Comparator" "java/util/Comparator" "compare" "(Ljava/lang/Object;Ljava/lang/Object;)I") ∈ lw_tbl := lw_at lw_m4 190 rfl
theorem q970 : (Jvm.Cond.declares ({ cls := "java/util/Comparator", name := "compare", desc := "(Ljava/lang/Object;Ljava/lang/Object;)I" } : Jvm.MethodName)) ∈ lw_tbl := lw_at lw_m4 191 rfl
theorem q977 : (Jvm.Cond.interfaceMethod "java/lang/Comparable" "java/lang/Comparable" "compareTo" "(Ljava/lang/Object;)I") ∈ lw_tbl := lw_at lw_m4 198 rfl
theorem q978 : (Jvm.Cond.declares ({ cls := "java/lang/Comparable", name := "compareTo", desc := "(Ljava/lang/Object;)I" } : Jvm.MethodName)) ∈ lw_tbl := lw_at lw_m4 199 rfl
theorem q1438 : (Jvm.Cond.interfaceMethod "java/util/Set" "java/util/Set" "iterator" "()Ljava/util/Iterator;") ∈ lw_tbl := lw_at lw_m6 179 rfl
theorem q1439 : (Jvm.Cond.declares ({ cls := "java/util/Set", name := "iterator", desc := "()Ljava/util/Iterator;" } : Jvm.MethodName)) ∈ lw_tbl := lw_at lw_m6 180 rfl
theorem q1475 : (Jvm.Cond.interfaceMethod "java/util/Map$Entry" "java/util/Map$Entry" "getValue" "()Ljava/lang/Object;") ∈ lw_tbl := lw_at lw_m6 216 rfl
theorem q1476 : (Jvm.Cond.declares ({ cls := "java/util/Map$Entry", name := "getValue", desc := "()Ljava/lang/Object;" } : Jvm.MethodName)) ∈ lw_tbl := lw_at lw_m6 217 rfl
theorem q1680 : (Jvm.Cond.interfaceMethod "java/util/Map$Entry" "java/util/Map$Entry" "getKey" "()Ljava/lang/Object;") ∈ lw_tbl := lw_at lw_m7 181 rfl
theorem q1681 : (Jvm.Cond.declares ({ cls := "java/util/Map$Entry", name := "getKey", desc := "()Ljava/lang/Object;" } : Jvm.MethodName)) ∈ lw_tbl := lw_at lw_m7 182 rfl
theorem q1563 : (Jvm.Cond.interfaceMethod "java/lang/CharSequence" "java/lang/CharSequence" "length" "()I") ∈ lw_tbl := lw_at lw_m7 64 rfl
theorem q1564 : (Jvm.Cond.declares ({ cls := "java/lang/CharSequence", name := "length", desc := "()I" } : Jvm.MethodName)) ∈ lw_tbl := lw_at lw_m7 65 rfl
theorem q1603 : (Jvm.Cond.interfaceMethod "java/lang/CharSequence" "java/lang/CharSequence" "charAt" "(I)C") ∈ lw_tbl := lw_at lw_m7 104 rfl
theorem q1604 : (Jvm.Cond.declares ({ cls := "java/lang/CharSequence", name := "charAt", desc := "(I)C" } : Jvm.MethodName)) ∈ lw_tbl := lw_at lw_m7 105 rfl
theorem q1628 : (Jvm.Cond.interfaceMethod "java/util/Collection" "java/util/Collection" "toArray" "()[Ljava/lang/Object;") ∈ lw_tbl := lw_at lw_m7 129 rfl
theorem q1629 : (Jvm.Cond.declares ({ cls := "java/util/Collection", name := "toArray", desc := "()[Ljava/lang/Object;" } : Jvm.MethodName)) ∈ lw_tbl := lw_at lw_m7 130 rfl
theorem q2283 : (Jvm.Cond.sameMethod "[Ljava/lang/Object;" "java/lang/Object" "getClass" "()Ljava/lang/Class;") ∈ lw_all := lw_g (lw_at lw_m10 64 rfl) rfl
theorem q2284 : (Jvm.Cond.selects "[Ljava/lang/Object;" ({ cls := "java/lang/Object", name := "getClass", desc := "()Ljava/lang/Class;" } : Jvm.MethodName) ({ cls := "java/lang/Object", name := "getClass", desc := "()Ljava/lang/Class;" } : Jvm.MethodName)) ∈ lw_all := lw_g (lw_at lw_m10 65 rfl) rfl
theorem q2308 : (Jvm.Cond.castable "[Ljava/lang/Object;" "java/lang/Object") ∈ lw_tbl := lw_at lw_m10 89 rfl
theorem q2309 : (Jvm.Cond.castable "[I" "java/lang/Object") ∈ lw_tbl := lw_at lw_m10 90 rfl
theorem q2310 : (Jvm.Cond.castable "[LExchangeText$Line;" "java/lang/Object") ∈ lw_tbl := lw_at lw_m10 91 rfl
theorem q2311 : (Jvm.Cond.castable "[Z" "java/lang/Object") ∈ lw_tbl := lw_at lw_m10 92 rfl
